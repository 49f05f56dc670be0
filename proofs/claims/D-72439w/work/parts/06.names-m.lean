/-! ChainPartsModel -/
set_option maxRecDepth 100000
def RX1 : String := "ChainPartsModel"
def TX1 : u_T := fun k => match k with
  | 0 => ("ChainPartsModel", "now", "[I", true)
  | 1 => ("ChainPartsModel", "draft", "[I", true)
  | 2 => ("ChainPartsModel", "past", "[I", true)
  | 3 => ("ChainPartsModel", "acts", "I", false)
  | 4 => ("ChainPartsModel", "images", "[I", true)
  | 5 => ("ChainPartsModel", "kept", "[Z", true)
  | 6 => ("ChainPartsModel", "tape", "[I", true)
  | 7 => ("ChainPartsModel", "taped", "I", false)
  | 8 => ("ChainPartsModel", "at", "I", false)
  | 9 => ("ChainPartsModel", "start", "I", false)
  | 10 => ("ChainPartsModel", "token", "I", false)
  | 11 => ("ChainPartsModel", "value", "I", false)
  | 12 => ("ChainPartsModel", "fault", "I", false)
  | 13 => ("ChainPartsModel", "place", "I", false)
  | 14 => ("ChainPartsModel", "latest", "I", false)
  | 15 => ("ChainPartsModel", "m", "[J", true)
  | 16 => ("ChainPartsModel", "solved", "[J", true)
  | 17 => ("ChainPartsModel", "under", "J", false)
  | 18 => ("ChainPartsModel", "above", "[J", true)
  | 19 => ("ChainPartsModel", "below", "[J", true)
  | 20 => ("ChainPartsModel", "boundAbove", "[J", true)
  | 21 => ("ChainPartsModel", "boundBelow", "[J", true)
  | 22 => ("ChainPartsModel", "lengthAbove", "J", false)
  | _ => ("ChainPartsModel", "lengthBelow", "J", false)
def tyX1 : Nat → FieldType := fun k => match k with
  | 0 => .array .int
  | 1 => .array .int
  | 2 => .array .int
  | 3 => .int
  | 4 => .array .int
  | 5 => .array .boolean
  | 6 => .array .int
  | 7 => .int
  | 8 => .int
  | 9 => .int
  | 10 => .int
  | 11 => .int
  | 12 => .int
  | 13 => .int
  | 14 => .int
  | 15 => .array .long
  | 16 => .array .long
  | 17 => .long
  | 18 => .array .long
  | 19 => .array .long
  | 20 => .array .long
  | 21 => .array .long
  | 22 => .long
  | _ => .long
abbrev wsX10 : List Cond := u_ws RX1 TX1 24
set_option maxRecDepth 100000 in
theorem nmX1 : ∀ a, a < 24 → ∀ b, b < 24 → a ≠ b → (TX1 a).2.1 ≠ (TX1 b).2.1 := by decide +kernel
set_option maxRecDepth 100000 in
theorem tyX1_ok : ∀ k, k < 24 → parseFieldDescriptor (TX1 k).2.2.1 = some (tyX1 k) := by decide +kernel
abbrev cX1_init : ByteArray := prog_14_method_1_code
def yX1_init : MethodName := ⟨RX1, "<init>", "()V"⟩
def dkwX1_init_4 : List UInt8 := [188, 11, 181, 0, 45, 177]
abbrev dktX1_init_4 : List UInt8 := dkwX1_init_4 ++ []
def dkwX1_init_3 : List UInt8 := [188, 11, 181, 0, 36, 42, 16, 6, 188, 11, 181, 0, 39, 42, 16, 6, 188, 11, 181, 0, 42, 42, 16, 6]
abbrev dktX1_init_3 : List UInt8 := dkwX1_init_3 ++ dktX1_init_4
def dkwX1_init_2 : List UInt8 := [188, 10, 181, 0, 26, 42, 16, 36, 188, 11, 181, 0, 29, 42, 16, 6, 188, 11, 181, 0, 33, 42, 16, 6]
abbrev dktX1_init_2 : List UInt8 := dkwX1_init_2 ++ dktX1_init_3
def dkwX1_init_1 : List UInt8 := [188, 10, 181, 0, 16, 42, 16, 126, 188, 10, 181, 0, 19, 42, 5, 188, 4, 181, 0, 22, 42, 16, 90]
abbrev dktX1_init_1 : List UInt8 := dkwX1_init_1 ++ dktX1_init_2
def dkwX1_init_0 : List UInt8 := [42, 183, 0, 1, 42, 16, 63, 188, 10, 181, 0, 7, 42, 16, 63, 188, 10, 181, 0, 13, 42, 17, 1, 248]
abbrev dktX1_init_0 : List UInt8 := dkwX1_init_0 ++ dktX1_init_1
theorem dksX1_init_0 : cX1_init.data.toList.drop 0 = dktX1_init_0 := by decide +kernel
theorem dksX1_init_1 : cX1_init.data.toList.drop 24 = dktX1_init_1 := dk_seg dksX1_init_0 24 rfl rfl
theorem dksX1_init_2 : cX1_init.data.toList.drop 47 = dktX1_init_2 := dk_seg dksX1_init_1 23 rfl rfl
theorem dksX1_init_3 : cX1_init.data.toList.drop 71 = dktX1_init_3 := dk_seg dksX1_init_2 24 rfl rfl
theorem dksX1_init_4 : cX1_init.data.toList.drop 95 = dktX1_init_4 := dk_seg dksX1_init_3 24 rfl rfl
theorem dX1_init_0 : decode cX1_init 0 = .ok (.aload_n 0, 1) := dk_42 (dk_at dksX1_init_0 0 rfl rfl)
theorem dX1_init_1 : decode cX1_init 1 = .ok (.invokespecial 1, 3) := dk_183 0 1 (dk_at dksX1_init_0 1 rfl rfl)
theorem dX1_init_4 : decode cX1_init 4 = .ok (.aload_n 0, 1) := dk_42 (dk_at dksX1_init_0 4 rfl rfl)
theorem dX1_init_5 : decode cX1_init 5 = .ok (.bipush 63, 2) := dk_16 63 (dk_at dksX1_init_0 5 rfl rfl)
theorem dX1_init_7 : decode cX1_init 7 = .ok (.newarray .int, 2) := dk_188_10 (dk_at dksX1_init_0 7 rfl rfl)
theorem dX1_init_9 : decode cX1_init 9 = .ok (.putfield 7, 3) := dk_181 0 7 (dk_at dksX1_init_0 9 rfl rfl)
theorem dX1_init_12 : decode cX1_init 12 = .ok (.aload_n 0, 1) := dk_42 (dk_at dksX1_init_0 12 rfl rfl)
theorem dX1_init_13 : decode cX1_init 13 = .ok (.bipush 63, 2) := dk_16 63 (dk_at dksX1_init_0 13 rfl rfl)
theorem dX1_init_15 : decode cX1_init 15 = .ok (.newarray .int, 2) := dk_188_10 (dk_at dksX1_init_0 15 rfl rfl)
theorem dX1_init_17 : decode cX1_init 17 = .ok (.putfield 13, 3) := dk_181 0 13 (dk_at dksX1_init_0 17 rfl rfl)
theorem dX1_init_20 : decode cX1_init 20 = .ok (.aload_n 0, 1) := dk_42 (dk_at dksX1_init_0 20 rfl rfl)
theorem dX1_init_21 : decode cX1_init 21 = .ok (.sipush 504, 3) := dk_17 1 248 (dk_at dksX1_init_0 21 rfl rfl)
theorem dX1_init_24 : decode cX1_init 24 = .ok (.newarray .int, 2) := dk_188_10 (dk_at dksX1_init_1 0 rfl rfl)
theorem dX1_init_26 : decode cX1_init 26 = .ok (.putfield 16, 3) := dk_181 0 16 (dk_at dksX1_init_1 2 rfl rfl)
theorem dX1_init_29 : decode cX1_init 29 = .ok (.aload_n 0, 1) := dk_42 (dk_at dksX1_init_1 5 rfl rfl)
theorem dX1_init_30 : decode cX1_init 30 = .ok (.bipush 126, 2) := dk_16 126 (dk_at dksX1_init_1 6 rfl rfl)
theorem dX1_init_32 : decode cX1_init 32 = .ok (.newarray .int, 2) := dk_188_10 (dk_at dksX1_init_1 8 rfl rfl)
theorem dX1_init_34 : decode cX1_init 34 = .ok (.putfield 19, 3) := dk_181 0 19 (dk_at dksX1_init_1 10 rfl rfl)
theorem dX1_init_37 : decode cX1_init 37 = .ok (.aload_n 0, 1) := dk_42 (dk_at dksX1_init_1 13 rfl rfl)
theorem dX1_init_38 : decode cX1_init 38 = .ok (.iconst 2, 1) := dk_5 (dk_at dksX1_init_1 14 rfl rfl)
theorem dX1_init_39 : decode cX1_init 39 = .ok (.newarray .boolean, 2) := dk_188_4 (dk_at dksX1_init_1 15 rfl rfl)
theorem dX1_init_41 : decode cX1_init 41 = .ok (.putfield 22, 3) := dk_181 0 22 (dk_at dksX1_init_1 17 rfl rfl)
theorem dX1_init_44 : decode cX1_init 44 = .ok (.aload_n 0, 1) := dk_42 (dk_at dksX1_init_1 20 rfl rfl)
theorem dX1_init_45 : decode cX1_init 45 = .ok (.bipush 90, 2) := dk_16 90 (dk_at dksX1_init_1 21 rfl rfl)
theorem dX1_init_47 : decode cX1_init 47 = .ok (.newarray .int, 2) := dk_188_10 (dk_at dksX1_init_2 0 rfl rfl)
theorem dX1_init_49 : decode cX1_init 49 = .ok (.putfield 26, 3) := dk_181 0 26 (dk_at dksX1_init_2 2 rfl rfl)
theorem dX1_init_52 : decode cX1_init 52 = .ok (.aload_n 0, 1) := dk_42 (dk_at dksX1_init_2 5 rfl rfl)
theorem dX1_init_53 : decode cX1_init 53 = .ok (.bipush 36, 2) := dk_16 36 (dk_at dksX1_init_2 6 rfl rfl)
theorem dX1_init_55 : decode cX1_init 55 = .ok (.newarray .long, 2) := dk_188_11 (dk_at dksX1_init_2 8 rfl rfl)
theorem dX1_init_57 : decode cX1_init 57 = .ok (.putfield 29, 3) := dk_181 0 29 (dk_at dksX1_init_2 10 rfl rfl)
theorem dX1_init_60 : decode cX1_init 60 = .ok (.aload_n 0, 1) := dk_42 (dk_at dksX1_init_2 13 rfl rfl)
theorem dX1_init_61 : decode cX1_init 61 = .ok (.bipush 6, 2) := dk_16 6 (dk_at dksX1_init_2 14 rfl rfl)
theorem dX1_init_63 : decode cX1_init 63 = .ok (.newarray .long, 2) := dk_188_11 (dk_at dksX1_init_2 16 rfl rfl)
theorem dX1_init_65 : decode cX1_init 65 = .ok (.putfield 33, 3) := dk_181 0 33 (dk_at dksX1_init_2 18 rfl rfl)
theorem dX1_init_68 : decode cX1_init 68 = .ok (.aload_n 0, 1) := dk_42 (dk_at dksX1_init_2 21 rfl rfl)
theorem dX1_init_69 : decode cX1_init 69 = .ok (.bipush 6, 2) := dk_16 6 (dk_at dksX1_init_2 22 rfl rfl)
theorem dX1_init_71 : decode cX1_init 71 = .ok (.newarray .long, 2) := dk_188_11 (dk_at dksX1_init_3 0 rfl rfl)
theorem dX1_init_73 : decode cX1_init 73 = .ok (.putfield 36, 3) := dk_181 0 36 (dk_at dksX1_init_3 2 rfl rfl)
theorem dX1_init_76 : decode cX1_init 76 = .ok (.aload_n 0, 1) := dk_42 (dk_at dksX1_init_3 5 rfl rfl)
theorem dX1_init_77 : decode cX1_init 77 = .ok (.bipush 6, 2) := dk_16 6 (dk_at dksX1_init_3 6 rfl rfl)
theorem dX1_init_79 : decode cX1_init 79 = .ok (.newarray .long, 2) := dk_188_11 (dk_at dksX1_init_3 8 rfl rfl)
theorem dX1_init_81 : decode cX1_init 81 = .ok (.putfield 39, 3) := dk_181 0 39 (dk_at dksX1_init_3 10 rfl rfl)
theorem dX1_init_84 : decode cX1_init 84 = .ok (.aload_n 0, 1) := dk_42 (dk_at dksX1_init_3 13 rfl rfl)
theorem dX1_init_85 : decode cX1_init 85 = .ok (.bipush 6, 2) := dk_16 6 (dk_at dksX1_init_3 14 rfl rfl)
theorem dX1_init_87 : decode cX1_init 87 = .ok (.newarray .long, 2) := dk_188_11 (dk_at dksX1_init_3 16 rfl rfl)
theorem dX1_init_89 : decode cX1_init 89 = .ok (.putfield 42, 3) := dk_181 0 42 (dk_at dksX1_init_3 18 rfl rfl)
theorem dX1_init_92 : decode cX1_init 92 = .ok (.aload_n 0, 1) := dk_42 (dk_at dksX1_init_3 21 rfl rfl)
theorem dX1_init_93 : decode cX1_init 93 = .ok (.bipush 6, 2) := dk_16 6 (dk_at dksX1_init_3 22 rfl rfl)
theorem dX1_init_95 : decode cX1_init 95 = .ok (.newarray .long, 2) := dk_188_11 (dk_at dksX1_init_4 0 rfl rfl)
theorem dX1_init_97 : decode cX1_init 97 = .ok (.putfield 45, 3) := dk_181 0 45 (dk_at dksX1_init_4 2 rfl rfl)
theorem dX1_init_100 : decode cX1_init 100 = .ok (.return_, 1) := dk_177 (dk_at dksX1_init_4 5 rfl rfl)
abbrev cX1_feed : ByteArray := prog_14_method_50_code
def yX1_feed : MethodName := ⟨RX1, "feed", "(I)I"⟩
def dkwX1_feed_2 : List UInt8 := [180, 0, 130, 172]
abbrev dktX1_feed_2 : List UInt8 := dkwX1_feed_2 ++ []
def dkwX1_feed_1 : List UInt8 := [18, 219, 172, 42, 180, 0, 26, 42, 180, 0, 130, 27, 79, 42, 89, 180, 0, 130, 4, 96, 181, 0, 130, 42]
abbrev dktX1_feed_1 : List UInt8 := dkwX1_feed_1 ++ dktX1_feed_2
def dkwX1_feed_0 : List UInt8 := [27, 133, 9, 20, 0, 216, 184, 0, 150, 154, 0, 6, 18, 218, 172, 42, 180, 0, 130, 16, 90, 160, 0, 6]
abbrev dktX1_feed_0 : List UInt8 := dkwX1_feed_0 ++ dktX1_feed_1
theorem dksX1_feed_0 : cX1_feed.data.toList.drop 0 = dktX1_feed_0 := by decide +kernel
theorem dksX1_feed_1 : cX1_feed.data.toList.drop 24 = dktX1_feed_1 := dk_seg dksX1_feed_0 24 rfl rfl
theorem dksX1_feed_2 : cX1_feed.data.toList.drop 48 = dktX1_feed_2 := dk_seg dksX1_feed_1 24 rfl rfl
theorem dX1_feed_0 : decode cX1_feed 0 = .ok (.iload_n 1, 1) := dk_27 (dk_at dksX1_feed_0 0 rfl rfl)
theorem dX1_feed_1 : decode cX1_feed 1 = .ok (.i2l, 1) := dk_133 (dk_at dksX1_feed_0 1 rfl rfl)
theorem dX1_feed_2 : decode cX1_feed 2 = .ok (.lconst 0, 1) := dk_9 (dk_at dksX1_feed_0 2 rfl rfl)
theorem dX1_feed_3 : decode cX1_feed 3 = .ok (.ldc2_w 216, 3) := dk_20 0 216 (dk_at dksX1_feed_0 3 rfl rfl)
theorem dX1_feed_6 : decode cX1_feed 6 = .ok (.invokestatic 150, 3) := dk_184 0 150 (dk_at dksX1_feed_0 6 rfl rfl)
theorem dX1_feed_9 : decode cX1_feed 9 = .ok (.ifCond .ne 6, 3) := dk_154 0 6 (dk_at dksX1_feed_0 9 rfl rfl)
theorem dX1_feed_12 : decode cX1_feed 12 = .ok (.ldc 218, 2) := dk_18 218 (dk_at dksX1_feed_0 12 rfl rfl)
theorem dX1_feed_14 : decode cX1_feed 14 = .ok (.ireturn, 1) := dk_172 (dk_at dksX1_feed_0 14 rfl rfl)
theorem dX1_feed_15 : decode cX1_feed 15 = .ok (.aload_n 0, 1) := dk_42 (dk_at dksX1_feed_0 15 rfl rfl)
theorem dX1_feed_16 : decode cX1_feed 16 = .ok (.getfield 130, 3) := dk_180 0 130 (dk_at dksX1_feed_0 16 rfl rfl)
theorem dX1_feed_19 : decode cX1_feed 19 = .ok (.bipush 90, 2) := dk_16 90 (dk_at dksX1_feed_0 19 rfl rfl)
theorem dX1_feed_21 : decode cX1_feed 21 = .ok (.if_icmp .ne 6, 3) := dk_160 0 6 (dk_at dksX1_feed_0 21 rfl rfl)
theorem dX1_feed_24 : decode cX1_feed 24 = .ok (.ldc 219, 2) := dk_18 219 (dk_at dksX1_feed_1 0 rfl rfl)
theorem dX1_feed_26 : decode cX1_feed 26 = .ok (.ireturn, 1) := dk_172 (dk_at dksX1_feed_1 2 rfl rfl)
theorem dX1_feed_27 : decode cX1_feed 27 = .ok (.aload_n 0, 1) := dk_42 (dk_at dksX1_feed_1 3 rfl rfl)
theorem dX1_feed_28 : decode cX1_feed 28 = .ok (.getfield 26, 3) := dk_180 0 26 (dk_at dksX1_feed_1 4 rfl rfl)
theorem dX1_feed_31 : decode cX1_feed 31 = .ok (.aload_n 0, 1) := dk_42 (dk_at dksX1_feed_1 7 rfl rfl)
theorem dX1_feed_32 : decode cX1_feed 32 = .ok (.getfield 130, 3) := dk_180 0 130 (dk_at dksX1_feed_1 8 rfl rfl)
theorem dX1_feed_35 : decode cX1_feed 35 = .ok (.iload_n 1, 1) := dk_27 (dk_at dksX1_feed_1 11 rfl rfl)
theorem dX1_feed_36 : decode cX1_feed 36 = .ok (.iastore, 1) := dk_79 (dk_at dksX1_feed_1 12 rfl rfl)
theorem dX1_feed_37 : decode cX1_feed 37 = .ok (.aload_n 0, 1) := dk_42 (dk_at dksX1_feed_1 13 rfl rfl)
theorem dX1_feed_38 : decode cX1_feed 38 = .ok (.dup, 1) := dk_89 (dk_at dksX1_feed_1 14 rfl rfl)
theorem dX1_feed_39 : decode cX1_feed 39 = .ok (.getfield 130, 3) := dk_180 0 130 (dk_at dksX1_feed_1 15 rfl rfl)
theorem dX1_feed_42 : decode cX1_feed 42 = .ok (.iconst 1, 1) := dk_4 (dk_at dksX1_feed_1 18 rfl rfl)
theorem dX1_feed_43 : decode cX1_feed 43 = .ok (.iadd, 1) := dk_96 (dk_at dksX1_feed_1 19 rfl rfl)
theorem dX1_feed_44 : decode cX1_feed 44 = .ok (.putfield 130, 3) := dk_181 0 130 (dk_at dksX1_feed_1 20 rfl rfl)
theorem dX1_feed_47 : decode cX1_feed 47 = .ok (.aload_n 0, 1) := dk_42 (dk_at dksX1_feed_1 23 rfl rfl)
theorem dX1_feed_48 : decode cX1_feed 48 = .ok (.getfield 130, 3) := dk_180 0 130 (dk_at dksX1_feed_2 0 rfl rfl)
theorem dX1_feed_51 : decode cX1_feed 51 = .ok (.ireturn, 1) := dk_172 (dk_at dksX1_feed_2 3 rfl rfl)
abbrev cX1_in : ByteArray := prog_14_method_3_code
def yX1_in : MethodName := ⟨RX1, "in", "(JJJ)Z"⟩
def dkwX1_in_0 : List UInt8 := [30, 32, 148, 155, 0, 14, 30, 22, 4, 148, 157, 0, 7, 4, 167, 0, 4, 3, 172]
abbrev dktX1_in_0 : List UInt8 := dkwX1_in_0 ++ []
theorem dksX1_in_0 : cX1_in.data.toList.drop 0 = dktX1_in_0 := by decide +kernel
theorem dX1_in_0 : decode cX1_in 0 = .ok (.lload_n 0, 1) := dk_30 (dk_at dksX1_in_0 0 rfl rfl)
theorem dX1_in_1 : decode cX1_in 1 = .ok (.lload_n 2, 1) := dk_32 (dk_at dksX1_in_0 1 rfl rfl)
theorem dX1_in_2 : decode cX1_in 2 = .ok (.lcmp, 1) := dk_148 (dk_at dksX1_in_0 2 rfl rfl)
theorem dX1_in_3 : decode cX1_in 3 = .ok (.ifCond .lt 14, 3) := dk_155 0 14 (dk_at dksX1_in_0 3 rfl rfl)
theorem dX1_in_6 : decode cX1_in 6 = .ok (.lload_n 0, 1) := dk_30 (dk_at dksX1_in_0 6 rfl rfl)
theorem dX1_in_7 : decode cX1_in 7 = .ok (.lload 4, 2) := dk_22 4 (dk_at dksX1_in_0 7 rfl rfl)
theorem dX1_in_9 : decode cX1_in 9 = .ok (.lcmp, 1) := dk_148 (dk_at dksX1_in_0 9 rfl rfl)
theorem dX1_in_10 : decode cX1_in 10 = .ok (.ifCond .gt 7, 3) := dk_157 0 7 (dk_at dksX1_in_0 10 rfl rfl)
theorem dX1_in_13 : decode cX1_in 13 = .ok (.iconst 1, 1) := dk_4 (dk_at dksX1_in_0 13 rfl rfl)
theorem dX1_in_14 : decode cX1_in 14 = .ok (.goto 4, 3) := dk_167 0 4 (dk_at dksX1_in_0 14 rfl rfl)
theorem dX1_in_17 : decode cX1_in 17 = .ok (.iconst 0, 1) := dk_3 (dk_at dksX1_in_0 17 rfl rfl)
theorem dX1_in_18 : decode cX1_in 18 = .ok (.ireturn, 1) := dk_172 (dk_at dksX1_in_0 18 rfl rfl)
abbrev cX1_complex : ByteArray := prog_14_method_51_code
def yX1_complex : MethodName := ⟨RX1, "complex", "()I"⟩
def dkwX1_complex_7 : List UInt8 := [180, 0, 7, 4, 46, 96, 42, 180, 0, 7, 5, 46, 96, 172]
abbrev dktX1_complex_7 : List UInt8 := dkwX1_complex_7 ++ []
def dkwX1_complex_6 : List UInt8 := [180, 0, 13, 3, 42, 180, 0, 7, 3, 184, 0, 234, 42, 3, 181, 0, 238, 42, 180, 0, 7, 3, 46, 42]
abbrev dktX1_complex_6 : List UInt8 := dkwX1_complex_6 ++ dktX1_complex_7
def dkwX1_complex_5 : List UInt8 := [42, 180, 0, 165, 158, 0, 19, 42, 42, 180, 0, 165, 181, 0, 230, 18, 233, 42, 180, 0, 168, 100, 172, 42]
abbrev dktX1_complex_5 : List UInt8 := dkwX1_complex_5 ++ dktX1_complex_6
def dkwX1_complex_4 : List UInt8 := [42, 182, 0, 227, 167, 255, 243, 42, 180, 0, 162, 153, 0, 8, 42, 4, 182, 0, 174, 42, 3, 181, 0, 130]
abbrev dktX1_complex_4 : List UInt8 := dkwX1_complex_4 ++ dktX1_complex_5
def dkwX1_complex_3 : List UInt8 := [16, 101, 182, 0, 220, 153, 0, 10, 42, 182, 0, 224, 167, 255, 243, 42, 16, 102, 182, 0, 220, 153, 0, 10]
abbrev dktX1_complex_3 : List UInt8 := dkwX1_complex_3 ++ dktX1_complex_4
def dkwX1_complex_2 : List UInt8 := [182, 0, 174, 42, 182, 0, 178, 42, 180, 0, 13, 3, 42, 4, 8, 182, 0, 191, 79, 42, 182, 0, 194, 42]
abbrev dktX1_complex_2 : List UInt8 := dkwX1_complex_2 ++ dktX1_complex_3
def dkwX1_complex_1 : List UInt8 := [181, 0, 134, 42, 3, 181, 0, 165, 42, 182, 0, 171, 42, 16, 99, 182, 0, 220, 154, 0, 8, 42, 4]
abbrev dktX1_complex_1 : List UInt8 := dkwX1_complex_1 ++ dktX1_complex_2
def dkwX1_complex_0 : List UInt8 := [3, 60, 27, 16, 63, 162, 0, 16, 42, 180, 0, 13, 27, 3, 79, 132, 1, 1, 167, 255, 240, 42, 3]
abbrev dktX1_complex_0 : List UInt8 := dkwX1_complex_0 ++ dktX1_complex_1
theorem dksX1_complex_0 : cX1_complex.data.toList.drop 0 = dktX1_complex_0 := by decide +kernel
theorem dksX1_complex_1 : cX1_complex.data.toList.drop 23 = dktX1_complex_1 := dk_seg dksX1_complex_0 23 rfl rfl
theorem dksX1_complex_2 : cX1_complex.data.toList.drop 46 = dktX1_complex_2 := dk_seg dksX1_complex_1 23 rfl rfl
theorem dksX1_complex_3 : cX1_complex.data.toList.drop 70 = dktX1_complex_3 := dk_seg dksX1_complex_2 24 rfl rfl
theorem dksX1_complex_4 : cX1_complex.data.toList.drop 94 = dktX1_complex_4 := dk_seg dksX1_complex_3 24 rfl rfl
theorem dksX1_complex_5 : cX1_complex.data.toList.drop 118 = dktX1_complex_5 := dk_seg dksX1_complex_4 24 rfl rfl
theorem dksX1_complex_6 : cX1_complex.data.toList.drop 142 = dktX1_complex_6 := dk_seg dksX1_complex_5 24 rfl rfl
theorem dksX1_complex_7 : cX1_complex.data.toList.drop 166 = dktX1_complex_7 := dk_seg dksX1_complex_6 24 rfl rfl
theorem dX1_complex_0 : decode cX1_complex 0 = .ok (.iconst 0, 1) := dk_3 (dk_at dksX1_complex_0 0 rfl rfl)
theorem dX1_complex_1 : decode cX1_complex 1 = .ok (.istore_n 1, 1) := dk_60 (dk_at dksX1_complex_0 1 rfl rfl)
theorem dX1_complex_2 : decode cX1_complex 2 = .ok (.iload_n 1, 1) := dk_27 (dk_at dksX1_complex_0 2 rfl rfl)
theorem dX1_complex_3 : decode cX1_complex 3 = .ok (.bipush 63, 2) := dk_16 63 (dk_at dksX1_complex_0 3 rfl rfl)
theorem dX1_complex_5 : decode cX1_complex 5 = .ok (.if_icmp .ge 16, 3) := dk_162 0 16 (dk_at dksX1_complex_0 5 rfl rfl)
theorem dX1_complex_8 : decode cX1_complex 8 = .ok (.aload_n 0, 1) := dk_42 (dk_at dksX1_complex_0 8 rfl rfl)
theorem dX1_complex_9 : decode cX1_complex 9 = .ok (.getfield 13, 3) := dk_180 0 13 (dk_at dksX1_complex_0 9 rfl rfl)
theorem dX1_complex_12 : decode cX1_complex 12 = .ok (.iload_n 1, 1) := dk_27 (dk_at dksX1_complex_0 12 rfl rfl)
theorem dX1_complex_13 : decode cX1_complex 13 = .ok (.iconst 0, 1) := dk_3 (dk_at dksX1_complex_0 13 rfl rfl)
theorem dX1_complex_14 : decode cX1_complex 14 = .ok (.iastore, 1) := dk_79 (dk_at dksX1_complex_0 14 rfl rfl)
theorem dX1_complex_15 : decode cX1_complex 15 = .ok (.iinc 1 1, 3) := dk_132 1 1 (dk_at dksX1_complex_0 15 rfl rfl)
theorem dX1_complex_18 : decode cX1_complex 18 = .ok (.goto (-16), 3) := dk_167 255 240 (dk_at dksX1_complex_0 18 rfl rfl)
theorem dX1_complex_21 : decode cX1_complex 21 = .ok (.aload_n 0, 1) := dk_42 (dk_at dksX1_complex_0 21 rfl rfl)
theorem dX1_complex_22 : decode cX1_complex 22 = .ok (.iconst 0, 1) := dk_3 (dk_at dksX1_complex_0 22 rfl rfl)
theorem dX1_complex_23 : decode cX1_complex 23 = .ok (.putfield 134, 3) := dk_181 0 134 (dk_at dksX1_complex_1 0 rfl rfl)
theorem dX1_complex_26 : decode cX1_complex 26 = .ok (.aload_n 0, 1) := dk_42 (dk_at dksX1_complex_1 3 rfl rfl)
theorem dX1_complex_27 : decode cX1_complex 27 = .ok (.iconst 0, 1) := dk_3 (dk_at dksX1_complex_1 4 rfl rfl)
theorem dX1_complex_28 : decode cX1_complex 28 = .ok (.putfield 165, 3) := dk_181 0 165 (dk_at dksX1_complex_1 5 rfl rfl)
theorem dX1_complex_31 : decode cX1_complex 31 = .ok (.aload_n 0, 1) := dk_42 (dk_at dksX1_complex_1 8 rfl rfl)
theorem dX1_complex_32 : decode cX1_complex 32 = .ok (.invokevirtual 171, 3) := dk_182 0 171 (dk_at dksX1_complex_1 9 rfl rfl)
theorem dX1_complex_35 : decode cX1_complex 35 = .ok (.aload_n 0, 1) := dk_42 (dk_at dksX1_complex_1 12 rfl rfl)
theorem dX1_complex_36 : decode cX1_complex 36 = .ok (.bipush 99, 2) := dk_16 99 (dk_at dksX1_complex_1 13 rfl rfl)
theorem dX1_complex_38 : decode cX1_complex 38 = .ok (.invokevirtual 220, 3) := dk_182 0 220 (dk_at dksX1_complex_1 15 rfl rfl)
theorem dX1_complex_41 : decode cX1_complex 41 = .ok (.ifCond .ne 8, 3) := dk_154 0 8 (dk_at dksX1_complex_1 18 rfl rfl)
theorem dX1_complex_44 : decode cX1_complex 44 = .ok (.aload_n 0, 1) := dk_42 (dk_at dksX1_complex_1 21 rfl rfl)
theorem dX1_complex_45 : decode cX1_complex 45 = .ok (.iconst 1, 1) := dk_4 (dk_at dksX1_complex_1 22 rfl rfl)
theorem dX1_complex_46 : decode cX1_complex 46 = .ok (.invokevirtual 174, 3) := dk_182 0 174 (dk_at dksX1_complex_2 0 rfl rfl)
theorem dX1_complex_49 : decode cX1_complex 49 = .ok (.aload_n 0, 1) := dk_42 (dk_at dksX1_complex_2 3 rfl rfl)
theorem dX1_complex_50 : decode cX1_complex 50 = .ok (.invokevirtual 178, 3) := dk_182 0 178 (dk_at dksX1_complex_2 4 rfl rfl)
theorem dX1_complex_53 : decode cX1_complex 53 = .ok (.aload_n 0, 1) := dk_42 (dk_at dksX1_complex_2 7 rfl rfl)
theorem dX1_complex_54 : decode cX1_complex 54 = .ok (.getfield 13, 3) := dk_180 0 13 (dk_at dksX1_complex_2 8 rfl rfl)
theorem dX1_complex_57 : decode cX1_complex 57 = .ok (.iconst 0, 1) := dk_3 (dk_at dksX1_complex_2 11 rfl rfl)
theorem dX1_complex_58 : decode cX1_complex 58 = .ok (.aload_n 0, 1) := dk_42 (dk_at dksX1_complex_2 12 rfl rfl)
theorem dX1_complex_59 : decode cX1_complex 59 = .ok (.iconst 1, 1) := dk_4 (dk_at dksX1_complex_2 13 rfl rfl)
theorem dX1_complex_60 : decode cX1_complex 60 = .ok (.iconst 5, 1) := dk_8 (dk_at dksX1_complex_2 14 rfl rfl)
theorem dX1_complex_61 : decode cX1_complex 61 = .ok (.invokevirtual 191, 3) := dk_182 0 191 (dk_at dksX1_complex_2 15 rfl rfl)
theorem dX1_complex_64 : decode cX1_complex 64 = .ok (.iastore, 1) := dk_79 (dk_at dksX1_complex_2 18 rfl rfl)
theorem dX1_complex_65 : decode cX1_complex 65 = .ok (.aload_n 0, 1) := dk_42 (dk_at dksX1_complex_2 19 rfl rfl)
theorem dX1_complex_66 : decode cX1_complex 66 = .ok (.invokevirtual 194, 3) := dk_182 0 194 (dk_at dksX1_complex_2 20 rfl rfl)
theorem dX1_complex_69 : decode cX1_complex 69 = .ok (.aload_n 0, 1) := dk_42 (dk_at dksX1_complex_2 23 rfl rfl)
theorem dX1_complex_70 : decode cX1_complex 70 = .ok (.bipush 101, 2) := dk_16 101 (dk_at dksX1_complex_3 0 rfl rfl)
theorem dX1_complex_72 : decode cX1_complex 72 = .ok (.invokevirtual 220, 3) := dk_182 0 220 (dk_at dksX1_complex_3 2 rfl rfl)
theorem dX1_complex_75 : decode cX1_complex 75 = .ok (.ifCond .eq 10, 3) := dk_153 0 10 (dk_at dksX1_complex_3 5 rfl rfl)
theorem dX1_complex_78 : decode cX1_complex 78 = .ok (.aload_n 0, 1) := dk_42 (dk_at dksX1_complex_3 8 rfl rfl)
theorem dX1_complex_79 : decode cX1_complex 79 = .ok (.invokevirtual 224, 3) := dk_182 0 224 (dk_at dksX1_complex_3 9 rfl rfl)
theorem dX1_complex_82 : decode cX1_complex 82 = .ok (.goto (-13), 3) := dk_167 255 243 (dk_at dksX1_complex_3 12 rfl rfl)
theorem dX1_complex_85 : decode cX1_complex 85 = .ok (.aload_n 0, 1) := dk_42 (dk_at dksX1_complex_3 15 rfl rfl)
theorem dX1_complex_86 : decode cX1_complex 86 = .ok (.bipush 102, 2) := dk_16 102 (dk_at dksX1_complex_3 16 rfl rfl)
theorem dX1_complex_88 : decode cX1_complex 88 = .ok (.invokevirtual 220, 3) := dk_182 0 220 (dk_at dksX1_complex_3 18 rfl rfl)
theorem dX1_complex_91 : decode cX1_complex 91 = .ok (.ifCond .eq 10, 3) := dk_153 0 10 (dk_at dksX1_complex_3 21 rfl rfl)
theorem dX1_complex_94 : decode cX1_complex 94 = .ok (.aload_n 0, 1) := dk_42 (dk_at dksX1_complex_4 0 rfl rfl)
theorem dX1_complex_95 : decode cX1_complex 95 = .ok (.invokevirtual 227, 3) := dk_182 0 227 (dk_at dksX1_complex_4 1 rfl rfl)
theorem dX1_complex_98 : decode cX1_complex 98 = .ok (.goto (-13), 3) := dk_167 255 243 (dk_at dksX1_complex_4 4 rfl rfl)
theorem dX1_complex_101 : decode cX1_complex 101 = .ok (.aload_n 0, 1) := dk_42 (dk_at dksX1_complex_4 7 rfl rfl)
theorem dX1_complex_102 : decode cX1_complex 102 = .ok (.getfield 162, 3) := dk_180 0 162 (dk_at dksX1_complex_4 8 rfl rfl)
theorem dX1_complex_105 : decode cX1_complex 105 = .ok (.ifCond .eq 8, 3) := dk_153 0 8 (dk_at dksX1_complex_4 11 rfl rfl)
theorem dX1_complex_108 : decode cX1_complex 108 = .ok (.aload_n 0, 1) := dk_42 (dk_at dksX1_complex_4 14 rfl rfl)
theorem dX1_complex_109 : decode cX1_complex 109 = .ok (.iconst 1, 1) := dk_4 (dk_at dksX1_complex_4 15 rfl rfl)
theorem dX1_complex_110 : decode cX1_complex 110 = .ok (.invokevirtual 174, 3) := dk_182 0 174 (dk_at dksX1_complex_4 16 rfl rfl)
theorem dX1_complex_113 : decode cX1_complex 113 = .ok (.aload_n 0, 1) := dk_42 (dk_at dksX1_complex_4 19 rfl rfl)
theorem dX1_complex_114 : decode cX1_complex 114 = .ok (.iconst 0, 1) := dk_3 (dk_at dksX1_complex_4 20 rfl rfl)
theorem dX1_complex_115 : decode cX1_complex 115 = .ok (.putfield 130, 3) := dk_181 0 130 (dk_at dksX1_complex_4 21 rfl rfl)
theorem dX1_complex_118 : decode cX1_complex 118 = .ok (.aload_n 0, 1) := dk_42 (dk_at dksX1_complex_5 0 rfl rfl)
theorem dX1_complex_119 : decode cX1_complex 119 = .ok (.getfield 165, 3) := dk_180 0 165 (dk_at dksX1_complex_5 1 rfl rfl)
theorem dX1_complex_122 : decode cX1_complex 122 = .ok (.ifCond .le 19, 3) := dk_158 0 19 (dk_at dksX1_complex_5 4 rfl rfl)
theorem dX1_complex_125 : decode cX1_complex 125 = .ok (.aload_n 0, 1) := dk_42 (dk_at dksX1_complex_5 7 rfl rfl)
theorem dX1_complex_126 : decode cX1_complex 126 = .ok (.aload_n 0, 1) := dk_42 (dk_at dksX1_complex_5 8 rfl rfl)
theorem dX1_complex_127 : decode cX1_complex 127 = .ok (.getfield 165, 3) := dk_180 0 165 (dk_at dksX1_complex_5 9 rfl rfl)
theorem dX1_complex_130 : decode cX1_complex 130 = .ok (.putfield 230, 3) := dk_181 0 230 (dk_at dksX1_complex_5 12 rfl rfl)
theorem dX1_complex_133 : decode cX1_complex 133 = .ok (.ldc 233, 2) := dk_18 233 (dk_at dksX1_complex_5 15 rfl rfl)
theorem dX1_complex_135 : decode cX1_complex 135 = .ok (.aload_n 0, 1) := dk_42 (dk_at dksX1_complex_5 17 rfl rfl)
theorem dX1_complex_136 : decode cX1_complex 136 = .ok (.getfield 168, 3) := dk_180 0 168 (dk_at dksX1_complex_5 18 rfl rfl)
theorem dX1_complex_139 : decode cX1_complex 139 = .ok (.isub, 1) := dk_100 (dk_at dksX1_complex_5 21 rfl rfl)
theorem dX1_complex_140 : decode cX1_complex 140 = .ok (.ireturn, 1) := dk_172 (dk_at dksX1_complex_5 22 rfl rfl)
theorem dX1_complex_141 : decode cX1_complex 141 = .ok (.aload_n 0, 1) := dk_42 (dk_at dksX1_complex_5 23 rfl rfl)
theorem dX1_complex_142 : decode cX1_complex 142 = .ok (.getfield 13, 3) := dk_180 0 13 (dk_at dksX1_complex_6 0 rfl rfl)
theorem dX1_complex_145 : decode cX1_complex 145 = .ok (.iconst 0, 1) := dk_3 (dk_at dksX1_complex_6 3 rfl rfl)
theorem dX1_complex_146 : decode cX1_complex 146 = .ok (.aload_n 0, 1) := dk_42 (dk_at dksX1_complex_6 4 rfl rfl)
theorem dX1_complex_147 : decode cX1_complex 147 = .ok (.getfield 7, 3) := dk_180 0 7 (dk_at dksX1_complex_6 5 rfl rfl)
theorem dX1_complex_150 : decode cX1_complex 150 = .ok (.iconst 0, 1) := dk_3 (dk_at dksX1_complex_6 8 rfl rfl)
theorem dX1_complex_151 : decode cX1_complex 151 = .ok (.invokestatic 234, 3) := dk_184 0 234 (dk_at dksX1_complex_6 9 rfl rfl)
theorem dX1_complex_154 : decode cX1_complex 154 = .ok (.aload_n 0, 1) := dk_42 (dk_at dksX1_complex_6 12 rfl rfl)
theorem dX1_complex_155 : decode cX1_complex 155 = .ok (.iconst 0, 1) := dk_3 (dk_at dksX1_complex_6 13 rfl rfl)
theorem dX1_complex_156 : decode cX1_complex 156 = .ok (.putfield 238, 3) := dk_181 0 238 (dk_at dksX1_complex_6 14 rfl rfl)
theorem dX1_complex_159 : decode cX1_complex 159 = .ok (.aload_n 0, 1) := dk_42 (dk_at dksX1_complex_6 17 rfl rfl)
theorem dX1_complex_160 : decode cX1_complex 160 = .ok (.getfield 7, 3) := dk_180 0 7 (dk_at dksX1_complex_6 18 rfl rfl)
theorem dX1_complex_163 : decode cX1_complex 163 = .ok (.iconst 0, 1) := dk_3 (dk_at dksX1_complex_6 21 rfl rfl)
theorem dX1_complex_164 : decode cX1_complex 164 = .ok (.iaload, 1) := dk_46 (dk_at dksX1_complex_6 22 rfl rfl)
theorem dX1_complex_165 : decode cX1_complex 165 = .ok (.aload_n 0, 1) := dk_42 (dk_at dksX1_complex_6 23 rfl rfl)
theorem dX1_complex_166 : decode cX1_complex 166 = .ok (.getfield 7, 3) := dk_180 0 7 (dk_at dksX1_complex_7 0 rfl rfl)
theorem dX1_complex_169 : decode cX1_complex 169 = .ok (.iconst 1, 1) := dk_4 (dk_at dksX1_complex_7 3 rfl rfl)
theorem dX1_complex_170 : decode cX1_complex 170 = .ok (.iaload, 1) := dk_46 (dk_at dksX1_complex_7 4 rfl rfl)
theorem dX1_complex_171 : decode cX1_complex 171 = .ok (.iadd, 1) := dk_96 (dk_at dksX1_complex_7 5 rfl rfl)
theorem dX1_complex_172 : decode cX1_complex 172 = .ok (.aload_n 0, 1) := dk_42 (dk_at dksX1_complex_7 6 rfl rfl)
theorem dX1_complex_173 : decode cX1_complex 173 = .ok (.getfield 7, 3) := dk_180 0 7 (dk_at dksX1_complex_7 7 rfl rfl)
theorem dX1_complex_176 : decode cX1_complex 176 = .ok (.iconst 2, 1) := dk_5 (dk_at dksX1_complex_7 10 rfl rfl)
theorem dX1_complex_177 : decode cX1_complex 177 = .ok (.iaload, 1) := dk_46 (dk_at dksX1_complex_7 11 rfl rfl)
theorem dX1_complex_178 : decode cX1_complex 178 = .ok (.iadd, 1) := dk_96 (dk_at dksX1_complex_7 12 rfl rfl)
theorem dX1_complex_179 : decode cX1_complex 179 = .ok (.ireturn, 1) := dk_172 (dk_at dksX1_complex_7 13 rfl rfl)
abbrev cX1_reads : ByteArray := prog_14_method_36_code
def yX1_reads : MethodName := ⟨RX1, "reads", "()V"⟩
def dkwX1_reads_5 : List UInt8 := [181, 0, 162, 177]
abbrev dktX1_reads_5 : List UInt8 := dkwX1_reads_5 ++ []
def dkwX1_reads_4 : List UInt8 := [153, 0, 7, 5, 167, 0, 20, 27, 16, 44, 159, 0, 9, 27, 16, 59, 160, 0, 7, 6, 167, 0, 4, 7]
abbrev dktX1_reads_4 : List UInt8 := dkwX1_reads_4 ++ dktX1_reads_5
def dkwX1_reads_3 : List UInt8 := [20, 0, 156, 184, 0, 150, 153, 0, 7, 4, 167, 0, 38, 27, 133, 20, 0, 158, 20, 0, 160, 184, 0, 150]
abbrev dktX1_reads_3 : List UInt8 := dkwX1_reads_3 ++ dktX1_reads_4
def dkwX1_reads_2 : List UInt8 := [167, 0, 70, 27, 133, 20, 0, 146, 20, 0, 148, 184, 0, 150, 154, 0, 17, 27, 133, 20, 0, 154]
abbrev dktX1_reads_2 : List UInt8 := dkwX1_reads_2 ++ dktX1_reads_3
def dkwX1_reads_1 : List UInt8 := [180, 0, 134, 27, 156, 0, 7, 3, 167, 0, 4, 4, 96, 181, 0, 134, 42, 27, 156, 0, 7, 3]
abbrev dktX1_reads_1 : List UInt8 := dkwX1_reads_1 ++ dktX1_reads_2
def dkwX1_reads_0 : List UInt8 := [42, 42, 180, 0, 134, 181, 0, 137, 42, 42, 180, 0, 134, 182, 0, 140, 60, 42, 27, 181, 0, 143, 42, 89]
abbrev dktX1_reads_0 : List UInt8 := dkwX1_reads_0 ++ dktX1_reads_1
theorem dksX1_reads_0 : cX1_reads.data.toList.drop 0 = dktX1_reads_0 := by decide +kernel
theorem dksX1_reads_1 : cX1_reads.data.toList.drop 24 = dktX1_reads_1 := dk_seg dksX1_reads_0 24 rfl rfl
theorem dksX1_reads_2 : cX1_reads.data.toList.drop 46 = dktX1_reads_2 := dk_seg dksX1_reads_1 22 rfl rfl
theorem dksX1_reads_3 : cX1_reads.data.toList.drop 68 = dktX1_reads_3 := dk_seg dksX1_reads_2 22 rfl rfl
theorem dksX1_reads_4 : cX1_reads.data.toList.drop 92 = dktX1_reads_4 := dk_seg dksX1_reads_3 24 rfl rfl
theorem dksX1_reads_5 : cX1_reads.data.toList.drop 116 = dktX1_reads_5 := dk_seg dksX1_reads_4 24 rfl rfl
theorem dX1_reads_0 : decode cX1_reads 0 = .ok (.aload_n 0, 1) := dk_42 (dk_at dksX1_reads_0 0 rfl rfl)
theorem dX1_reads_1 : decode cX1_reads 1 = .ok (.aload_n 0, 1) := dk_42 (dk_at dksX1_reads_0 1 rfl rfl)
theorem dX1_reads_2 : decode cX1_reads 2 = .ok (.getfield 134, 3) := dk_180 0 134 (dk_at dksX1_reads_0 2 rfl rfl)
theorem dX1_reads_5 : decode cX1_reads 5 = .ok (.putfield 137, 3) := dk_181 0 137 (dk_at dksX1_reads_0 5 rfl rfl)
theorem dX1_reads_8 : decode cX1_reads 8 = .ok (.aload_n 0, 1) := dk_42 (dk_at dksX1_reads_0 8 rfl rfl)
theorem dX1_reads_9 : decode cX1_reads 9 = .ok (.aload_n 0, 1) := dk_42 (dk_at dksX1_reads_0 9 rfl rfl)
theorem dX1_reads_10 : decode cX1_reads 10 = .ok (.getfield 134, 3) := dk_180 0 134 (dk_at dksX1_reads_0 10 rfl rfl)
theorem dX1_reads_13 : decode cX1_reads 13 = .ok (.invokevirtual 140, 3) := dk_182 0 140 (dk_at dksX1_reads_0 13 rfl rfl)
theorem dX1_reads_16 : decode cX1_reads 16 = .ok (.istore_n 1, 1) := dk_60 (dk_at dksX1_reads_0 16 rfl rfl)
theorem dX1_reads_17 : decode cX1_reads 17 = .ok (.aload_n 0, 1) := dk_42 (dk_at dksX1_reads_0 17 rfl rfl)
theorem dX1_reads_18 : decode cX1_reads 18 = .ok (.iload_n 1, 1) := dk_27 (dk_at dksX1_reads_0 18 rfl rfl)
theorem dX1_reads_19 : decode cX1_reads 19 = .ok (.putfield 143, 3) := dk_181 0 143 (dk_at dksX1_reads_0 19 rfl rfl)
theorem dX1_reads_22 : decode cX1_reads 22 = .ok (.aload_n 0, 1) := dk_42 (dk_at dksX1_reads_0 22 rfl rfl)
theorem dX1_reads_23 : decode cX1_reads 23 = .ok (.dup, 1) := dk_89 (dk_at dksX1_reads_0 23 rfl rfl)
theorem dX1_reads_24 : decode cX1_reads 24 = .ok (.getfield 134, 3) := dk_180 0 134 (dk_at dksX1_reads_1 0 rfl rfl)
theorem dX1_reads_27 : decode cX1_reads 27 = .ok (.iload_n 1, 1) := dk_27 (dk_at dksX1_reads_1 3 rfl rfl)
theorem dX1_reads_28 : decode cX1_reads 28 = .ok (.ifCond .ge 7, 3) := dk_156 0 7 (dk_at dksX1_reads_1 4 rfl rfl)
theorem dX1_reads_31 : decode cX1_reads 31 = .ok (.iconst 0, 1) := dk_3 (dk_at dksX1_reads_1 7 rfl rfl)
theorem dX1_reads_32 : decode cX1_reads 32 = .ok (.goto 4, 3) := dk_167 0 4 (dk_at dksX1_reads_1 8 rfl rfl)
theorem dX1_reads_35 : decode cX1_reads 35 = .ok (.iconst 1, 1) := dk_4 (dk_at dksX1_reads_1 11 rfl rfl)
theorem dX1_reads_36 : decode cX1_reads 36 = .ok (.iadd, 1) := dk_96 (dk_at dksX1_reads_1 12 rfl rfl)
theorem dX1_reads_37 : decode cX1_reads 37 = .ok (.putfield 134, 3) := dk_181 0 134 (dk_at dksX1_reads_1 13 rfl rfl)
theorem dX1_reads_40 : decode cX1_reads 40 = .ok (.aload_n 0, 1) := dk_42 (dk_at dksX1_reads_1 16 rfl rfl)
theorem dX1_reads_41 : decode cX1_reads 41 = .ok (.iload_n 1, 1) := dk_27 (dk_at dksX1_reads_1 17 rfl rfl)
theorem dX1_reads_42 : decode cX1_reads 42 = .ok (.ifCond .ge 7, 3) := dk_156 0 7 (dk_at dksX1_reads_1 18 rfl rfl)
theorem dX1_reads_45 : decode cX1_reads 45 = .ok (.iconst 0, 1) := dk_3 (dk_at dksX1_reads_1 21 rfl rfl)
theorem dX1_reads_46 : decode cX1_reads 46 = .ok (.goto 70, 3) := dk_167 0 70 (dk_at dksX1_reads_2 0 rfl rfl)
theorem dX1_reads_49 : decode cX1_reads 49 = .ok (.iload_n 1, 1) := dk_27 (dk_at dksX1_reads_2 3 rfl rfl)
theorem dX1_reads_50 : decode cX1_reads 50 = .ok (.i2l, 1) := dk_133 (dk_at dksX1_reads_2 4 rfl rfl)
theorem dX1_reads_51 : decode cX1_reads 51 = .ok (.ldc2_w 146, 3) := dk_20 0 146 (dk_at dksX1_reads_2 5 rfl rfl)
theorem dX1_reads_54 : decode cX1_reads 54 = .ok (.ldc2_w 148, 3) := dk_20 0 148 (dk_at dksX1_reads_2 8 rfl rfl)
theorem dX1_reads_57 : decode cX1_reads 57 = .ok (.invokestatic 150, 3) := dk_184 0 150 (dk_at dksX1_reads_2 11 rfl rfl)
theorem dX1_reads_60 : decode cX1_reads 60 = .ok (.ifCond .ne 17, 3) := dk_154 0 17 (dk_at dksX1_reads_2 14 rfl rfl)
theorem dX1_reads_63 : decode cX1_reads 63 = .ok (.iload_n 1, 1) := dk_27 (dk_at dksX1_reads_2 17 rfl rfl)
theorem dX1_reads_64 : decode cX1_reads 64 = .ok (.i2l, 1) := dk_133 (dk_at dksX1_reads_2 18 rfl rfl)
theorem dX1_reads_65 : decode cX1_reads 65 = .ok (.ldc2_w 154, 3) := dk_20 0 154 (dk_at dksX1_reads_2 19 rfl rfl)
theorem dX1_reads_68 : decode cX1_reads 68 = .ok (.ldc2_w 156, 3) := dk_20 0 156 (dk_at dksX1_reads_3 0 rfl rfl)
theorem dX1_reads_71 : decode cX1_reads 71 = .ok (.invokestatic 150, 3) := dk_184 0 150 (dk_at dksX1_reads_3 3 rfl rfl)
theorem dX1_reads_74 : decode cX1_reads 74 = .ok (.ifCond .eq 7, 3) := dk_153 0 7 (dk_at dksX1_reads_3 6 rfl rfl)
theorem dX1_reads_77 : decode cX1_reads 77 = .ok (.iconst 1, 1) := dk_4 (dk_at dksX1_reads_3 9 rfl rfl)
theorem dX1_reads_78 : decode cX1_reads 78 = .ok (.goto 38, 3) := dk_167 0 38 (dk_at dksX1_reads_3 10 rfl rfl)
theorem dX1_reads_81 : decode cX1_reads 81 = .ok (.iload_n 1, 1) := dk_27 (dk_at dksX1_reads_3 13 rfl rfl)
theorem dX1_reads_82 : decode cX1_reads 82 = .ok (.i2l, 1) := dk_133 (dk_at dksX1_reads_3 14 rfl rfl)
theorem dX1_reads_83 : decode cX1_reads 83 = .ok (.ldc2_w 158, 3) := dk_20 0 158 (dk_at dksX1_reads_3 15 rfl rfl)
theorem dX1_reads_86 : decode cX1_reads 86 = .ok (.ldc2_w 160, 3) := dk_20 0 160 (dk_at dksX1_reads_3 18 rfl rfl)
theorem dX1_reads_89 : decode cX1_reads 89 = .ok (.invokestatic 150, 3) := dk_184 0 150 (dk_at dksX1_reads_3 21 rfl rfl)
theorem dX1_reads_92 : decode cX1_reads 92 = .ok (.ifCond .eq 7, 3) := dk_153 0 7 (dk_at dksX1_reads_4 0 rfl rfl)
theorem dX1_reads_95 : decode cX1_reads 95 = .ok (.iconst 2, 1) := dk_5 (dk_at dksX1_reads_4 3 rfl rfl)
theorem dX1_reads_96 : decode cX1_reads 96 = .ok (.goto 20, 3) := dk_167 0 20 (dk_at dksX1_reads_4 4 rfl rfl)
theorem dX1_reads_99 : decode cX1_reads 99 = .ok (.iload_n 1, 1) := dk_27 (dk_at dksX1_reads_4 7 rfl rfl)
theorem dX1_reads_100 : decode cX1_reads 100 = .ok (.bipush 44, 2) := dk_16 44 (dk_at dksX1_reads_4 8 rfl rfl)
theorem dX1_reads_102 : decode cX1_reads 102 = .ok (.if_icmp .eq 9, 3) := dk_159 0 9 (dk_at dksX1_reads_4 10 rfl rfl)
theorem dX1_reads_105 : decode cX1_reads 105 = .ok (.iload_n 1, 1) := dk_27 (dk_at dksX1_reads_4 13 rfl rfl)
theorem dX1_reads_106 : decode cX1_reads 106 = .ok (.bipush 59, 2) := dk_16 59 (dk_at dksX1_reads_4 14 rfl rfl)
theorem dX1_reads_108 : decode cX1_reads 108 = .ok (.if_icmp .ne 7, 3) := dk_160 0 7 (dk_at dksX1_reads_4 16 rfl rfl)
theorem dX1_reads_111 : decode cX1_reads 111 = .ok (.iconst 3, 1) := dk_6 (dk_at dksX1_reads_4 19 rfl rfl)
theorem dX1_reads_112 : decode cX1_reads 112 = .ok (.goto 4, 3) := dk_167 0 4 (dk_at dksX1_reads_4 20 rfl rfl)
theorem dX1_reads_115 : decode cX1_reads 115 = .ok (.iconst 4, 1) := dk_7 (dk_at dksX1_reads_4 23 rfl rfl)
theorem dX1_reads_116 : decode cX1_reads 116 = .ok (.putfield 162, 3) := dk_181 0 162 (dk_at dksX1_reads_5 0 rfl rfl)
theorem dX1_reads_119 : decode cX1_reads 119 = .ok (.return_, 1) := dk_177 (dk_at dksX1_reads_5 3 rfl rfl)
abbrev cX1_byteAt : ByteArray := prog_14_method_35_code
def yX1_byteAt : MethodName := ⟨RX1, "byteAt", "(I)I"⟩
def dkwX1_byteAt_0 : List UInt8 := [27, 42, 180, 0, 130, 162, 0, 12, 42, 180, 0, 26, 27, 46, 167, 0, 4, 2, 172]
abbrev dktX1_byteAt_0 : List UInt8 := dkwX1_byteAt_0 ++ []
theorem dksX1_byteAt_0 : cX1_byteAt.data.toList.drop 0 = dktX1_byteAt_0 := by decide +kernel
theorem dX1_byteAt_0 : decode cX1_byteAt 0 = .ok (.iload_n 1, 1) := dk_27 (dk_at dksX1_byteAt_0 0 rfl rfl)
theorem dX1_byteAt_1 : decode cX1_byteAt 1 = .ok (.aload_n 0, 1) := dk_42 (dk_at dksX1_byteAt_0 1 rfl rfl)
theorem dX1_byteAt_2 : decode cX1_byteAt 2 = .ok (.getfield 130, 3) := dk_180 0 130 (dk_at dksX1_byteAt_0 2 rfl rfl)
theorem dX1_byteAt_5 : decode cX1_byteAt 5 = .ok (.if_icmp .ge 12, 3) := dk_162 0 12 (dk_at dksX1_byteAt_0 5 rfl rfl)
theorem dX1_byteAt_8 : decode cX1_byteAt 8 = .ok (.aload_n 0, 1) := dk_42 (dk_at dksX1_byteAt_0 8 rfl rfl)
theorem dX1_byteAt_9 : decode cX1_byteAt 9 = .ok (.getfield 26, 3) := dk_180 0 26 (dk_at dksX1_byteAt_0 9 rfl rfl)
theorem dX1_byteAt_12 : decode cX1_byteAt 12 = .ok (.iload_n 1, 1) := dk_27 (dk_at dksX1_byteAt_0 12 rfl rfl)
theorem dX1_byteAt_13 : decode cX1_byteAt 13 = .ok (.iaload, 1) := dk_46 (dk_at dksX1_byteAt_0 13 rfl rfl)
theorem dX1_byteAt_14 : decode cX1_byteAt 14 = .ok (.goto 4, 3) := dk_167 0 4 (dk_at dksX1_byteAt_0 14 rfl rfl)
theorem dX1_byteAt_17 : decode cX1_byteAt 17 = .ok (.iconst (-1), 1) := dk_2 (dk_at dksX1_byteAt_0 17 rfl rfl)
theorem dX1_byteAt_18 : decode cX1_byteAt 18 = .ok (.ireturn, 1) := dk_172 (dk_at dksX1_byteAt_0 18 rfl rfl)
abbrev cX1_isLetter : ByteArray := prog_14_method_40_code
def yX1_isLetter : MethodName := ⟨RX1, "isLetter", "(I)Z"⟩
def dkwX1_isLetter_1 : List UInt8 := [167, 0, 4, 3, 172]
abbrev dktX1_isLetter_1 : List UInt8 := dkwX1_isLetter_1 ++ []
def dkwX1_isLetter_0 : List UInt8 := [42, 180, 0, 165, 154, 0, 23, 42, 180, 0, 162, 4, 160, 0, 15, 42, 180, 0, 143, 27, 160, 0, 7, 4]
abbrev dktX1_isLetter_0 : List UInt8 := dkwX1_isLetter_0 ++ dktX1_isLetter_1
theorem dksX1_isLetter_0 : cX1_isLetter.data.toList.drop 0 = dktX1_isLetter_0 := by decide +kernel
theorem dksX1_isLetter_1 : cX1_isLetter.data.toList.drop 24 = dktX1_isLetter_1 := dk_seg dksX1_isLetter_0 24 rfl rfl
theorem dX1_isLetter_0 : decode cX1_isLetter 0 = .ok (.aload_n 0, 1) := dk_42 (dk_at dksX1_isLetter_0 0 rfl rfl)
theorem dX1_isLetter_1 : decode cX1_isLetter 1 = .ok (.getfield 165, 3) := dk_180 0 165 (dk_at dksX1_isLetter_0 1 rfl rfl)
theorem dX1_isLetter_4 : decode cX1_isLetter 4 = .ok (.ifCond .ne 23, 3) := dk_154 0 23 (dk_at dksX1_isLetter_0 4 rfl rfl)
theorem dX1_isLetter_7 : decode cX1_isLetter 7 = .ok (.aload_n 0, 1) := dk_42 (dk_at dksX1_isLetter_0 7 rfl rfl)
theorem dX1_isLetter_8 : decode cX1_isLetter 8 = .ok (.getfield 162, 3) := dk_180 0 162 (dk_at dksX1_isLetter_0 8 rfl rfl)
theorem dX1_isLetter_11 : decode cX1_isLetter 11 = .ok (.iconst 1, 1) := dk_4 (dk_at dksX1_isLetter_0 11 rfl rfl)
theorem dX1_isLetter_12 : decode cX1_isLetter 12 = .ok (.if_icmp .ne 15, 3) := dk_160 0 15 (dk_at dksX1_isLetter_0 12 rfl rfl)
theorem dX1_isLetter_15 : decode cX1_isLetter 15 = .ok (.aload_n 0, 1) := dk_42 (dk_at dksX1_isLetter_0 15 rfl rfl)
theorem dX1_isLetter_16 : decode cX1_isLetter 16 = .ok (.getfield 143, 3) := dk_180 0 143 (dk_at dksX1_isLetter_0 16 rfl rfl)
theorem dX1_isLetter_19 : decode cX1_isLetter 19 = .ok (.iload_n 1, 1) := dk_27 (dk_at dksX1_isLetter_0 19 rfl rfl)
theorem dX1_isLetter_20 : decode cX1_isLetter 20 = .ok (.if_icmp .ne 7, 3) := dk_160 0 7 (dk_at dksX1_isLetter_0 20 rfl rfl)
theorem dX1_isLetter_23 : decode cX1_isLetter 23 = .ok (.iconst 1, 1) := dk_4 (dk_at dksX1_isLetter_0 23 rfl rfl)
theorem dX1_isLetter_24 : decode cX1_isLetter 24 = .ok (.goto 4, 3) := dk_167 0 4 (dk_at dksX1_isLetter_1 0 rfl rfl)
theorem dX1_isLetter_27 : decode cX1_isLetter 27 = .ok (.iconst 0, 1) := dk_3 (dk_at dksX1_isLetter_1 3 rfl rfl)
theorem dX1_isLetter_28 : decode cX1_isLetter 28 = .ok (.ireturn, 1) := dk_172 (dk_at dksX1_isLetter_1 4 rfl rfl)
abbrev cX1_bad : ByteArray := prog_14_method_37_code
def yX1_bad : MethodName := ⟨RX1, "bad", "(I)V"⟩
def dkwX1_bad_0 : List UInt8 := [42, 180, 0, 165, 154, 0, 16, 42, 27, 181, 0, 165, 42, 42, 180, 0, 137, 181, 0, 168, 177]
abbrev dktX1_bad_0 : List UInt8 := dkwX1_bad_0 ++ []
theorem dksX1_bad_0 : cX1_bad.data.toList.drop 0 = dktX1_bad_0 := by decide +kernel
theorem dX1_bad_0 : decode cX1_bad 0 = .ok (.aload_n 0, 1) := dk_42 (dk_at dksX1_bad_0 0 rfl rfl)
theorem dX1_bad_1 : decode cX1_bad 1 = .ok (.getfield 165, 3) := dk_180 0 165 (dk_at dksX1_bad_0 1 rfl rfl)
theorem dX1_bad_4 : decode cX1_bad 4 = .ok (.ifCond .ne 16, 3) := dk_154 0 16 (dk_at dksX1_bad_0 4 rfl rfl)
theorem dX1_bad_7 : decode cX1_bad 7 = .ok (.aload_n 0, 1) := dk_42 (dk_at dksX1_bad_0 7 rfl rfl)
theorem dX1_bad_8 : decode cX1_bad 8 = .ok (.iload_n 1, 1) := dk_27 (dk_at dksX1_bad_0 8 rfl rfl)
theorem dX1_bad_9 : decode cX1_bad 9 = .ok (.putfield 165, 3) := dk_181 0 165 (dk_at dksX1_bad_0 9 rfl rfl)
theorem dX1_bad_12 : decode cX1_bad 12 = .ok (.aload_n 0, 1) := dk_42 (dk_at dksX1_bad_0 12 rfl rfl)
theorem dX1_bad_13 : decode cX1_bad 13 = .ok (.aload_n 0, 1) := dk_42 (dk_at dksX1_bad_0 13 rfl rfl)
theorem dX1_bad_14 : decode cX1_bad 14 = .ok (.getfield 137, 3) := dk_180 0 137 (dk_at dksX1_bad_0 14 rfl rfl)
theorem dX1_bad_17 : decode cX1_bad 17 = .ok (.putfield 168, 3) := dk_181 0 168 (dk_at dksX1_bad_0 17 rfl rfl)
theorem dX1_bad_20 : decode cX1_bad 20 = .ok (.return_, 1) := dk_177 (dk_at dksX1_bad_0 20 rfl rfl)
abbrev cX1_goesOn : ByteArray := prog_14_method_38_code
def yX1_goesOn : MethodName := ⟨RX1, "goesOn", "()V"⟩
def dkwX1_goesOn_0 : List UInt8 := [42, 180, 0, 165, 154, 0, 7, 42, 182, 0, 171, 177]
abbrev dktX1_goesOn_0 : List UInt8 := dkwX1_goesOn_0 ++ []
theorem dksX1_goesOn_0 : cX1_goesOn.data.toList.drop 0 = dktX1_goesOn_0 := by decide +kernel
theorem dX1_goesOn_0 : decode cX1_goesOn 0 = .ok (.aload_n 0, 1) := dk_42 (dk_at dksX1_goesOn_0 0 rfl rfl)
theorem dX1_goesOn_1 : decode cX1_goesOn 1 = .ok (.getfield 165, 3) := dk_180 0 165 (dk_at dksX1_goesOn_0 1 rfl rfl)
theorem dX1_goesOn_4 : decode cX1_goesOn 4 = .ok (.ifCond .ne 7, 3) := dk_154 0 7 (dk_at dksX1_goesOn_0 4 rfl rfl)
theorem dX1_goesOn_7 : decode cX1_goesOn 7 = .ok (.aload_n 0, 1) := dk_42 (dk_at dksX1_goesOn_0 7 rfl rfl)
theorem dX1_goesOn_8 : decode cX1_goesOn 8 = .ok (.invokevirtual 171, 3) := dk_182 0 171 (dk_at dksX1_goesOn_0 8 rfl rfl)
theorem dX1_goesOn_11 : decode cX1_goesOn 11 = .ok (.return_, 1) := dk_177 (dk_at dksX1_goesOn_0 11 rfl rfl)
abbrev cX1_digit : ByteArray := prog_14_method_39_code
def yX1_digit : MethodName := ⟨RX1, "digit", "(II)I"⟩
def dkwX1_digit_2 : List UInt8 := [180, 0, 143, 16, 48, 100, 167, 0, 4, 27, 62, 42, 182, 0, 178, 29, 172]
abbrev dktX1_digit_2 : List UInt8 := dkwX1_digit_2 ++ []
def dkwX1_digit_1 : List UInt8 := [27, 133, 28, 133, 184, 0, 150, 154, 0, 8, 42, 5, 182, 0, 174, 42, 180, 0, 165, 154, 0, 13, 42]
abbrev dktX1_digit_1 : List UInt8 := dkwX1_digit_1 ++ dktX1_digit_2
def dkwX1_digit_0 : List UInt8 := [42, 180, 0, 162, 5, 159, 0, 11, 42, 4, 182, 0, 174, 167, 0, 26, 42, 180, 0, 143, 16, 48, 100, 133]
abbrev dktX1_digit_0 : List UInt8 := dkwX1_digit_0 ++ dktX1_digit_1
theorem dksX1_digit_0 : cX1_digit.data.toList.drop 0 = dktX1_digit_0 := by decide +kernel
theorem dksX1_digit_1 : cX1_digit.data.toList.drop 24 = dktX1_digit_1 := dk_seg dksX1_digit_0 24 rfl rfl
theorem dksX1_digit_2 : cX1_digit.data.toList.drop 47 = dktX1_digit_2 := dk_seg dksX1_digit_1 23 rfl rfl
theorem dX1_digit_0 : decode cX1_digit 0 = .ok (.aload_n 0, 1) := dk_42 (dk_at dksX1_digit_0 0 rfl rfl)
theorem dX1_digit_1 : decode cX1_digit 1 = .ok (.getfield 162, 3) := dk_180 0 162 (dk_at dksX1_digit_0 1 rfl rfl)
theorem dX1_digit_4 : decode cX1_digit 4 = .ok (.iconst 2, 1) := dk_5 (dk_at dksX1_digit_0 4 rfl rfl)
theorem dX1_digit_5 : decode cX1_digit 5 = .ok (.if_icmp .eq 11, 3) := dk_159 0 11 (dk_at dksX1_digit_0 5 rfl rfl)
theorem dX1_digit_8 : decode cX1_digit 8 = .ok (.aload_n 0, 1) := dk_42 (dk_at dksX1_digit_0 8 rfl rfl)
theorem dX1_digit_9 : decode cX1_digit 9 = .ok (.iconst 1, 1) := dk_4 (dk_at dksX1_digit_0 9 rfl rfl)
theorem dX1_digit_10 : decode cX1_digit 10 = .ok (.invokevirtual 174, 3) := dk_182 0 174 (dk_at dksX1_digit_0 10 rfl rfl)
theorem dX1_digit_13 : decode cX1_digit 13 = .ok (.goto 26, 3) := dk_167 0 26 (dk_at dksX1_digit_0 13 rfl rfl)
theorem dX1_digit_16 : decode cX1_digit 16 = .ok (.aload_n 0, 1) := dk_42 (dk_at dksX1_digit_0 16 rfl rfl)
theorem dX1_digit_17 : decode cX1_digit 17 = .ok (.getfield 143, 3) := dk_180 0 143 (dk_at dksX1_digit_0 17 rfl rfl)
theorem dX1_digit_20 : decode cX1_digit 20 = .ok (.bipush 48, 2) := dk_16 48 (dk_at dksX1_digit_0 20 rfl rfl)
theorem dX1_digit_22 : decode cX1_digit 22 = .ok (.isub, 1) := dk_100 (dk_at dksX1_digit_0 22 rfl rfl)
theorem dX1_digit_23 : decode cX1_digit 23 = .ok (.i2l, 1) := dk_133 (dk_at dksX1_digit_0 23 rfl rfl)
theorem dX1_digit_24 : decode cX1_digit 24 = .ok (.iload_n 1, 1) := dk_27 (dk_at dksX1_digit_1 0 rfl rfl)
theorem dX1_digit_25 : decode cX1_digit 25 = .ok (.i2l, 1) := dk_133 (dk_at dksX1_digit_1 1 rfl rfl)
theorem dX1_digit_26 : decode cX1_digit 26 = .ok (.iload_n 2, 1) := dk_28 (dk_at dksX1_digit_1 2 rfl rfl)
theorem dX1_digit_27 : decode cX1_digit 27 = .ok (.i2l, 1) := dk_133 (dk_at dksX1_digit_1 3 rfl rfl)
theorem dX1_digit_28 : decode cX1_digit 28 = .ok (.invokestatic 150, 3) := dk_184 0 150 (dk_at dksX1_digit_1 4 rfl rfl)
theorem dX1_digit_31 : decode cX1_digit 31 = .ok (.ifCond .ne 8, 3) := dk_154 0 8 (dk_at dksX1_digit_1 7 rfl rfl)
theorem dX1_digit_34 : decode cX1_digit 34 = .ok (.aload_n 0, 1) := dk_42 (dk_at dksX1_digit_1 10 rfl rfl)
theorem dX1_digit_35 : decode cX1_digit 35 = .ok (.iconst 2, 1) := dk_5 (dk_at dksX1_digit_1 11 rfl rfl)
theorem dX1_digit_36 : decode cX1_digit 36 = .ok (.invokevirtual 174, 3) := dk_182 0 174 (dk_at dksX1_digit_1 12 rfl rfl)
theorem dX1_digit_39 : decode cX1_digit 39 = .ok (.aload_n 0, 1) := dk_42 (dk_at dksX1_digit_1 15 rfl rfl)
theorem dX1_digit_40 : decode cX1_digit 40 = .ok (.getfield 165, 3) := dk_180 0 165 (dk_at dksX1_digit_1 16 rfl rfl)
theorem dX1_digit_43 : decode cX1_digit 43 = .ok (.ifCond .ne 13, 3) := dk_154 0 13 (dk_at dksX1_digit_1 19 rfl rfl)
theorem dX1_digit_46 : decode cX1_digit 46 = .ok (.aload_n 0, 1) := dk_42 (dk_at dksX1_digit_1 22 rfl rfl)
theorem dX1_digit_47 : decode cX1_digit 47 = .ok (.getfield 143, 3) := dk_180 0 143 (dk_at dksX1_digit_2 0 rfl rfl)
theorem dX1_digit_50 : decode cX1_digit 50 = .ok (.bipush 48, 2) := dk_16 48 (dk_at dksX1_digit_2 3 rfl rfl)
theorem dX1_digit_52 : decode cX1_digit 52 = .ok (.isub, 1) := dk_100 (dk_at dksX1_digit_2 5 rfl rfl)
theorem dX1_digit_53 : decode cX1_digit 53 = .ok (.goto 4, 3) := dk_167 0 4 (dk_at dksX1_digit_2 6 rfl rfl)
theorem dX1_digit_56 : decode cX1_digit 56 = .ok (.iload_n 1, 1) := dk_27 (dk_at dksX1_digit_2 9 rfl rfl)
theorem dX1_digit_57 : decode cX1_digit 57 = .ok (.istore_n 3, 1) := dk_62 (dk_at dksX1_digit_2 10 rfl rfl)
theorem dX1_digit_58 : decode cX1_digit 58 = .ok (.aload_n 0, 1) := dk_42 (dk_at dksX1_digit_2 11 rfl rfl)
theorem dX1_digit_59 : decode cX1_digit 59 = .ok (.invokevirtual 178, 3) := dk_182 0 178 (dk_at dksX1_digit_2 12 rfl rfl)
theorem dX1_digit_62 : decode cX1_digit 62 = .ok (.iload_n 3, 1) := dk_29 (dk_at dksX1_digit_2 15 rfl rfl)
theorem dX1_digit_63 : decode cX1_digit 63 = .ok (.ireturn, 1) := dk_172 (dk_at dksX1_digit_2 16 rfl rfl)
abbrev cX1_stop : ByteArray := prog_14_method_42_code
def yX1_stop : MethodName := ⟨RX1, "stop", "()V"⟩
def dkwX1_stop_0 : List UInt8 := [42, 182, 0, 181, 154, 0, 8, 42, 4, 182, 0, 174, 42, 182, 0, 178, 177]
abbrev dktX1_stop_0 : List UInt8 := dkwX1_stop_0 ++ []
theorem dksX1_stop_0 : cX1_stop.data.toList.drop 0 = dktX1_stop_0 := by decide +kernel
theorem dX1_stop_0 : decode cX1_stop 0 = .ok (.aload_n 0, 1) := dk_42 (dk_at dksX1_stop_0 0 rfl rfl)
theorem dX1_stop_1 : decode cX1_stop 1 = .ok (.invokevirtual 181, 3) := dk_182 0 181 (dk_at dksX1_stop_0 1 rfl rfl)
theorem dX1_stop_4 : decode cX1_stop 4 = .ok (.ifCond .ne 8, 3) := dk_154 0 8 (dk_at dksX1_stop_0 4 rfl rfl)
theorem dX1_stop_7 : decode cX1_stop 7 = .ok (.aload_n 0, 1) := dk_42 (dk_at dksX1_stop_0 7 rfl rfl)
theorem dX1_stop_8 : decode cX1_stop 8 = .ok (.iconst 1, 1) := dk_4 (dk_at dksX1_stop_0 8 rfl rfl)
theorem dX1_stop_9 : decode cX1_stop 9 = .ok (.invokevirtual 174, 3) := dk_182 0 174 (dk_at dksX1_stop_0 9 rfl rfl)
theorem dX1_stop_12 : decode cX1_stop 12 = .ok (.aload_n 0, 1) := dk_42 (dk_at dksX1_stop_0 12 rfl rfl)
theorem dX1_stop_13 : decode cX1_stop 13 = .ok (.invokevirtual 178, 3) := dk_182 0 178 (dk_at dksX1_stop_0 13 rfl rfl)
theorem dX1_stop_16 : decode cX1_stop 16 = .ok (.return_, 1) := dk_177 (dk_at dksX1_stop_0 16 rfl rfl)
abbrev cX1_isStop : ByteArray := prog_14_method_41_code
def yX1_isStop : MethodName := ⟨RX1, "isStop", "()Z"⟩
def dkwX1_isStop_0 : List UInt8 := [42, 180, 0, 162, 6, 160, 0, 16, 42, 180, 0, 143, 16, 59, 160, 0, 7, 4, 167, 0, 4, 3, 172]
abbrev dktX1_isStop_0 : List UInt8 := dkwX1_isStop_0 ++ []
theorem dksX1_isStop_0 : cX1_isStop.data.toList.drop 0 = dktX1_isStop_0 := by decide +kernel
theorem dX1_isStop_0 : decode cX1_isStop 0 = .ok (.aload_n 0, 1) := dk_42 (dk_at dksX1_isStop_0 0 rfl rfl)
theorem dX1_isStop_1 : decode cX1_isStop 1 = .ok (.getfield 162, 3) := dk_180 0 162 (dk_at dksX1_isStop_0 1 rfl rfl)
theorem dX1_isStop_4 : decode cX1_isStop 4 = .ok (.iconst 3, 1) := dk_6 (dk_at dksX1_isStop_0 4 rfl rfl)
theorem dX1_isStop_5 : decode cX1_isStop 5 = .ok (.if_icmp .ne 16, 3) := dk_160 0 16 (dk_at dksX1_isStop_0 5 rfl rfl)
theorem dX1_isStop_8 : decode cX1_isStop 8 = .ok (.aload_n 0, 1) := dk_42 (dk_at dksX1_isStop_0 8 rfl rfl)
theorem dX1_isStop_9 : decode cX1_isStop 9 = .ok (.getfield 143, 3) := dk_180 0 143 (dk_at dksX1_isStop_0 9 rfl rfl)
theorem dX1_isStop_12 : decode cX1_isStop 12 = .ok (.bipush 59, 2) := dk_16 59 (dk_at dksX1_isStop_0 12 rfl rfl)
theorem dX1_isStop_14 : decode cX1_isStop 14 = .ok (.if_icmp .ne 7, 3) := dk_160 0 7 (dk_at dksX1_isStop_0 14 rfl rfl)
theorem dX1_isStop_17 : decode cX1_isStop 17 = .ok (.iconst 1, 1) := dk_4 (dk_at dksX1_isStop_0 17 rfl rfl)
theorem dX1_isStop_18 : decode cX1_isStop 18 = .ok (.goto 4, 3) := dk_167 0 4 (dk_at dksX1_isStop_0 18 rfl rfl)
theorem dX1_isStop_21 : decode cX1_isStop 21 = .ok (.iconst 0, 1) := dk_3 (dk_at dksX1_isStop_0 21 rfl rfl)
theorem dX1_isStop_22 : decode cX1_isStop 22 = .ok (.ireturn, 1) := dk_172 (dk_at dksX1_isStop_0 22 rfl rfl)
abbrev cX1_readsEdge : ByteArray := prog_14_method_47_code
def yX1_readsEdge : MethodName := ⟨RX1, "readsEdge", "()V"⟩
def dkwX1_readsEdge_3 : List UInt8 := [180, 0, 13, 28, 29, 21, 4, 184, 0, 197, 177]
abbrev dktX1_readsEdge_3 : List UInt8 := dkwX1_readsEdge_3 ++ []
def dkwX1_readsEdge_2 : List UInt8 := [182, 0, 191, 62, 42, 4, 6, 182, 0, 191, 54, 4, 42, 182, 0, 194, 42, 180, 0, 165, 154, 0, 14, 42]
abbrev dktX1_readsEdge_2 : List UInt8 := dkwX1_readsEdge_2 ++ dktX1_readsEdge_3
def dkwX1_readsEdge_1 : List UInt8 := [42, 180, 0, 13, 3, 46, 4, 100, 182, 0, 191, 61, 42, 3, 42, 180, 0, 13, 3, 46, 4, 100]
abbrev dktX1_readsEdge_1 : List UInt8 := dkwX1_readsEdge_1 ++ dktX1_readsEdge_2
def dkwX1_readsEdge_0 : List UInt8 := [42, 180, 0, 13, 4, 46, 60, 27, 16, 6, 160, 0, 8, 42, 6, 182, 0, 174, 42, 182, 0, 178, 42, 3]
abbrev dktX1_readsEdge_0 : List UInt8 := dkwX1_readsEdge_0 ++ dktX1_readsEdge_1
theorem dksX1_readsEdge_0 : cX1_readsEdge.data.toList.drop 0 = dktX1_readsEdge_0 := by decide +kernel
theorem dksX1_readsEdge_1 : cX1_readsEdge.data.toList.drop 24 = dktX1_readsEdge_1 := dk_seg dksX1_readsEdge_0 24 rfl rfl
theorem dksX1_readsEdge_2 : cX1_readsEdge.data.toList.drop 46 = dktX1_readsEdge_2 := dk_seg dksX1_readsEdge_1 22 rfl rfl
theorem dksX1_readsEdge_3 : cX1_readsEdge.data.toList.drop 70 = dktX1_readsEdge_3 := dk_seg dksX1_readsEdge_2 24 rfl rfl
theorem dX1_readsEdge_0 : decode cX1_readsEdge 0 = .ok (.aload_n 0, 1) := dk_42 (dk_at dksX1_readsEdge_0 0 rfl rfl)
theorem dX1_readsEdge_1 : decode cX1_readsEdge 1 = .ok (.getfield 13, 3) := dk_180 0 13 (dk_at dksX1_readsEdge_0 1 rfl rfl)
theorem dX1_readsEdge_4 : decode cX1_readsEdge 4 = .ok (.iconst 1, 1) := dk_4 (dk_at dksX1_readsEdge_0 4 rfl rfl)
theorem dX1_readsEdge_5 : decode cX1_readsEdge 5 = .ok (.iaload, 1) := dk_46 (dk_at dksX1_readsEdge_0 5 rfl rfl)
theorem dX1_readsEdge_6 : decode cX1_readsEdge 6 = .ok (.istore_n 1, 1) := dk_60 (dk_at dksX1_readsEdge_0 6 rfl rfl)
theorem dX1_readsEdge_7 : decode cX1_readsEdge 7 = .ok (.iload_n 1, 1) := dk_27 (dk_at dksX1_readsEdge_0 7 rfl rfl)
theorem dX1_readsEdge_8 : decode cX1_readsEdge 8 = .ok (.bipush 6, 2) := dk_16 6 (dk_at dksX1_readsEdge_0 8 rfl rfl)
theorem dX1_readsEdge_10 : decode cX1_readsEdge 10 = .ok (.if_icmp .ne 8, 3) := dk_160 0 8 (dk_at dksX1_readsEdge_0 10 rfl rfl)
theorem dX1_readsEdge_13 : decode cX1_readsEdge 13 = .ok (.aload_n 0, 1) := dk_42 (dk_at dksX1_readsEdge_0 13 rfl rfl)
theorem dX1_readsEdge_14 : decode cX1_readsEdge 14 = .ok (.iconst 3, 1) := dk_6 (dk_at dksX1_readsEdge_0 14 rfl rfl)
theorem dX1_readsEdge_15 : decode cX1_readsEdge 15 = .ok (.invokevirtual 174, 3) := dk_182 0 174 (dk_at dksX1_readsEdge_0 15 rfl rfl)
theorem dX1_readsEdge_18 : decode cX1_readsEdge 18 = .ok (.aload_n 0, 1) := dk_42 (dk_at dksX1_readsEdge_0 18 rfl rfl)
theorem dX1_readsEdge_19 : decode cX1_readsEdge 19 = .ok (.invokevirtual 178, 3) := dk_182 0 178 (dk_at dksX1_readsEdge_0 19 rfl rfl)
theorem dX1_readsEdge_22 : decode cX1_readsEdge 22 = .ok (.aload_n 0, 1) := dk_42 (dk_at dksX1_readsEdge_0 22 rfl rfl)
theorem dX1_readsEdge_23 : decode cX1_readsEdge 23 = .ok (.iconst 0, 1) := dk_3 (dk_at dksX1_readsEdge_0 23 rfl rfl)
theorem dX1_readsEdge_24 : decode cX1_readsEdge 24 = .ok (.aload_n 0, 1) := dk_42 (dk_at dksX1_readsEdge_1 0 rfl rfl)
theorem dX1_readsEdge_25 : decode cX1_readsEdge 25 = .ok (.getfield 13, 3) := dk_180 0 13 (dk_at dksX1_readsEdge_1 1 rfl rfl)
theorem dX1_readsEdge_28 : decode cX1_readsEdge 28 = .ok (.iconst 0, 1) := dk_3 (dk_at dksX1_readsEdge_1 4 rfl rfl)
theorem dX1_readsEdge_29 : decode cX1_readsEdge 29 = .ok (.iaload, 1) := dk_46 (dk_at dksX1_readsEdge_1 5 rfl rfl)
theorem dX1_readsEdge_30 : decode cX1_readsEdge 30 = .ok (.iconst 1, 1) := dk_4 (dk_at dksX1_readsEdge_1 6 rfl rfl)
theorem dX1_readsEdge_31 : decode cX1_readsEdge 31 = .ok (.isub, 1) := dk_100 (dk_at dksX1_readsEdge_1 7 rfl rfl)
theorem dX1_readsEdge_32 : decode cX1_readsEdge 32 = .ok (.invokevirtual 191, 3) := dk_182 0 191 (dk_at dksX1_readsEdge_1 8 rfl rfl)
theorem dX1_readsEdge_35 : decode cX1_readsEdge 35 = .ok (.istore_n 2, 1) := dk_61 (dk_at dksX1_readsEdge_1 11 rfl rfl)
theorem dX1_readsEdge_36 : decode cX1_readsEdge 36 = .ok (.aload_n 0, 1) := dk_42 (dk_at dksX1_readsEdge_1 12 rfl rfl)
theorem dX1_readsEdge_37 : decode cX1_readsEdge 37 = .ok (.iconst 0, 1) := dk_3 (dk_at dksX1_readsEdge_1 13 rfl rfl)
theorem dX1_readsEdge_38 : decode cX1_readsEdge 38 = .ok (.aload_n 0, 1) := dk_42 (dk_at dksX1_readsEdge_1 14 rfl rfl)
theorem dX1_readsEdge_39 : decode cX1_readsEdge 39 = .ok (.getfield 13, 3) := dk_180 0 13 (dk_at dksX1_readsEdge_1 15 rfl rfl)
theorem dX1_readsEdge_42 : decode cX1_readsEdge 42 = .ok (.iconst 0, 1) := dk_3 (dk_at dksX1_readsEdge_1 18 rfl rfl)
theorem dX1_readsEdge_43 : decode cX1_readsEdge 43 = .ok (.iaload, 1) := dk_46 (dk_at dksX1_readsEdge_1 19 rfl rfl)
theorem dX1_readsEdge_44 : decode cX1_readsEdge 44 = .ok (.iconst 1, 1) := dk_4 (dk_at dksX1_readsEdge_1 20 rfl rfl)
theorem dX1_readsEdge_45 : decode cX1_readsEdge 45 = .ok (.isub, 1) := dk_100 (dk_at dksX1_readsEdge_1 21 rfl rfl)
theorem dX1_readsEdge_46 : decode cX1_readsEdge 46 = .ok (.invokevirtual 191, 3) := dk_182 0 191 (dk_at dksX1_readsEdge_2 0 rfl rfl)
theorem dX1_readsEdge_49 : decode cX1_readsEdge 49 = .ok (.istore_n 3, 1) := dk_62 (dk_at dksX1_readsEdge_2 3 rfl rfl)
theorem dX1_readsEdge_50 : decode cX1_readsEdge 50 = .ok (.aload_n 0, 1) := dk_42 (dk_at dksX1_readsEdge_2 4 rfl rfl)
theorem dX1_readsEdge_51 : decode cX1_readsEdge 51 = .ok (.iconst 1, 1) := dk_4 (dk_at dksX1_readsEdge_2 5 rfl rfl)
theorem dX1_readsEdge_52 : decode cX1_readsEdge 52 = .ok (.iconst 3, 1) := dk_6 (dk_at dksX1_readsEdge_2 6 rfl rfl)
theorem dX1_readsEdge_53 : decode cX1_readsEdge 53 = .ok (.invokevirtual 191, 3) := dk_182 0 191 (dk_at dksX1_readsEdge_2 7 rfl rfl)
theorem dX1_readsEdge_56 : decode cX1_readsEdge 56 = .ok (.istore 4, 2) := dk_54 4 (dk_at dksX1_readsEdge_2 10 rfl rfl)
theorem dX1_readsEdge_58 : decode cX1_readsEdge 58 = .ok (.aload_n 0, 1) := dk_42 (dk_at dksX1_readsEdge_2 12 rfl rfl)
theorem dX1_readsEdge_59 : decode cX1_readsEdge 59 = .ok (.invokevirtual 194, 3) := dk_182 0 194 (dk_at dksX1_readsEdge_2 13 rfl rfl)
theorem dX1_readsEdge_62 : decode cX1_readsEdge 62 = .ok (.aload_n 0, 1) := dk_42 (dk_at dksX1_readsEdge_2 16 rfl rfl)
theorem dX1_readsEdge_63 : decode cX1_readsEdge 63 = .ok (.getfield 165, 3) := dk_180 0 165 (dk_at dksX1_readsEdge_2 17 rfl rfl)
theorem dX1_readsEdge_66 : decode cX1_readsEdge 66 = .ok (.ifCond .ne 14, 3) := dk_154 0 14 (dk_at dksX1_readsEdge_2 20 rfl rfl)
theorem dX1_readsEdge_69 : decode cX1_readsEdge 69 = .ok (.aload_n 0, 1) := dk_42 (dk_at dksX1_readsEdge_2 23 rfl rfl)
theorem dX1_readsEdge_70 : decode cX1_readsEdge 70 = .ok (.getfield 13, 3) := dk_180 0 13 (dk_at dksX1_readsEdge_3 0 rfl rfl)
theorem dX1_readsEdge_73 : decode cX1_readsEdge 73 = .ok (.iload_n 2, 1) := dk_28 (dk_at dksX1_readsEdge_3 3 rfl rfl)
theorem dX1_readsEdge_74 : decode cX1_readsEdge 74 = .ok (.iload_n 3, 1) := dk_29 (dk_at dksX1_readsEdge_3 4 rfl rfl)
theorem dX1_readsEdge_75 : decode cX1_readsEdge 75 = .ok (.iload 4, 2) := dk_21 4 (dk_at dksX1_readsEdge_3 5 rfl rfl)
theorem dX1_readsEdge_77 : decode cX1_readsEdge 77 = .ok (.invokestatic 197, 3) := dk_184 0 197 (dk_at dksX1_readsEdge_3 7 rfl rfl)
theorem dX1_readsEdge_80 : decode cX1_readsEdge 80 = .ok (.return_, 1) := dk_177 (dk_at dksX1_readsEdge_3 10 rfl rfl)
abbrev cX1_laysEdge : ByteArray := prog_14_method_48_code
def yX1_laysEdge : MethodName := ⟨RX1, "laysEdge", "([IIII)V"⟩
def dkwX1_laysEdge_1 : List UInt8 := [5, 96, 29, 79, 42, 4, 92, 46, 4, 96, 79, 177]
abbrev dktX1_laysEdge_1 : List UInt8 := dkwX1_laysEdge_1 ++ []
def dkwX1_laysEdge_0 : List UInt8 := [6, 6, 42, 4, 46, 104, 96, 54, 4, 42, 21, 4, 27, 79, 42, 21, 4, 4, 96, 28, 79, 42, 21, 4]
abbrev dktX1_laysEdge_0 : List UInt8 := dkwX1_laysEdge_0 ++ dktX1_laysEdge_1
theorem dksX1_laysEdge_0 : cX1_laysEdge.data.toList.drop 0 = dktX1_laysEdge_0 := by decide +kernel
theorem dksX1_laysEdge_1 : cX1_laysEdge.data.toList.drop 24 = dktX1_laysEdge_1 := dk_seg dksX1_laysEdge_0 24 rfl rfl
theorem dX1_laysEdge_0 : decode cX1_laysEdge 0 = .ok (.iconst 3, 1) := dk_6 (dk_at dksX1_laysEdge_0 0 rfl rfl)
theorem dX1_laysEdge_1 : decode cX1_laysEdge 1 = .ok (.iconst 3, 1) := dk_6 (dk_at dksX1_laysEdge_0 1 rfl rfl)
theorem dX1_laysEdge_2 : decode cX1_laysEdge 2 = .ok (.aload_n 0, 1) := dk_42 (dk_at dksX1_laysEdge_0 2 rfl rfl)
theorem dX1_laysEdge_3 : decode cX1_laysEdge 3 = .ok (.iconst 1, 1) := dk_4 (dk_at dksX1_laysEdge_0 3 rfl rfl)
theorem dX1_laysEdge_4 : decode cX1_laysEdge 4 = .ok (.iaload, 1) := dk_46 (dk_at dksX1_laysEdge_0 4 rfl rfl)
theorem dX1_laysEdge_5 : decode cX1_laysEdge 5 = .ok (.imul, 1) := dk_104 (dk_at dksX1_laysEdge_0 5 rfl rfl)
theorem dX1_laysEdge_6 : decode cX1_laysEdge 6 = .ok (.iadd, 1) := dk_96 (dk_at dksX1_laysEdge_0 6 rfl rfl)
theorem dX1_laysEdge_7 : decode cX1_laysEdge 7 = .ok (.istore 4, 2) := dk_54 4 (dk_at dksX1_laysEdge_0 7 rfl rfl)
theorem dX1_laysEdge_9 : decode cX1_laysEdge 9 = .ok (.aload_n 0, 1) := dk_42 (dk_at dksX1_laysEdge_0 9 rfl rfl)
theorem dX1_laysEdge_10 : decode cX1_laysEdge 10 = .ok (.iload 4, 2) := dk_21 4 (dk_at dksX1_laysEdge_0 10 rfl rfl)
theorem dX1_laysEdge_12 : decode cX1_laysEdge 12 = .ok (.iload_n 1, 1) := dk_27 (dk_at dksX1_laysEdge_0 12 rfl rfl)
theorem dX1_laysEdge_13 : decode cX1_laysEdge 13 = .ok (.iastore, 1) := dk_79 (dk_at dksX1_laysEdge_0 13 rfl rfl)
theorem dX1_laysEdge_14 : decode cX1_laysEdge 14 = .ok (.aload_n 0, 1) := dk_42 (dk_at dksX1_laysEdge_0 14 rfl rfl)
theorem dX1_laysEdge_15 : decode cX1_laysEdge 15 = .ok (.iload 4, 2) := dk_21 4 (dk_at dksX1_laysEdge_0 15 rfl rfl)
theorem dX1_laysEdge_17 : decode cX1_laysEdge 17 = .ok (.iconst 1, 1) := dk_4 (dk_at dksX1_laysEdge_0 17 rfl rfl)
theorem dX1_laysEdge_18 : decode cX1_laysEdge 18 = .ok (.iadd, 1) := dk_96 (dk_at dksX1_laysEdge_0 18 rfl rfl)
theorem dX1_laysEdge_19 : decode cX1_laysEdge 19 = .ok (.iload_n 2, 1) := dk_28 (dk_at dksX1_laysEdge_0 19 rfl rfl)
theorem dX1_laysEdge_20 : decode cX1_laysEdge 20 = .ok (.iastore, 1) := dk_79 (dk_at dksX1_laysEdge_0 20 rfl rfl)
theorem dX1_laysEdge_21 : decode cX1_laysEdge 21 = .ok (.aload_n 0, 1) := dk_42 (dk_at dksX1_laysEdge_0 21 rfl rfl)
theorem dX1_laysEdge_22 : decode cX1_laysEdge 22 = .ok (.iload 4, 2) := dk_21 4 (dk_at dksX1_laysEdge_0 22 rfl rfl)
theorem dX1_laysEdge_24 : decode cX1_laysEdge 24 = .ok (.iconst 2, 1) := dk_5 (dk_at dksX1_laysEdge_1 0 rfl rfl)
theorem dX1_laysEdge_25 : decode cX1_laysEdge 25 = .ok (.iadd, 1) := dk_96 (dk_at dksX1_laysEdge_1 1 rfl rfl)
theorem dX1_laysEdge_26 : decode cX1_laysEdge 26 = .ok (.iload_n 3, 1) := dk_29 (dk_at dksX1_laysEdge_1 2 rfl rfl)
theorem dX1_laysEdge_27 : decode cX1_laysEdge 27 = .ok (.iastore, 1) := dk_79 (dk_at dksX1_laysEdge_1 3 rfl rfl)
theorem dX1_laysEdge_28 : decode cX1_laysEdge 28 = .ok (.aload_n 0, 1) := dk_42 (dk_at dksX1_laysEdge_1 4 rfl rfl)
theorem dX1_laysEdge_29 : decode cX1_laysEdge 29 = .ok (.iconst 1, 1) := dk_4 (dk_at dksX1_laysEdge_1 5 rfl rfl)
theorem dX1_laysEdge_30 : decode cX1_laysEdge 30 = .ok (.dup2, 1) := dk_92 (dk_at dksX1_laysEdge_1 6 rfl rfl)
theorem dX1_laysEdge_31 : decode cX1_laysEdge 31 = .ok (.iaload, 1) := dk_46 (dk_at dksX1_laysEdge_1 7 rfl rfl)
theorem dX1_laysEdge_32 : decode cX1_laysEdge 32 = .ok (.iconst 1, 1) := dk_4 (dk_at dksX1_laysEdge_1 8 rfl rfl)
theorem dX1_laysEdge_33 : decode cX1_laysEdge 33 = .ok (.iadd, 1) := dk_96 (dk_at dksX1_laysEdge_1 9 rfl rfl)
theorem dX1_laysEdge_34 : decode cX1_laysEdge 34 = .ok (.iastore, 1) := dk_79 (dk_at dksX1_laysEdge_1 10 rfl rfl)
theorem dX1_laysEdge_35 : decode cX1_laysEdge 35 = .ok (.return_, 1) := dk_177 (dk_at dksX1_laysEdge_1 11 rfl rfl)
abbrev cX1_readsFace : ByteArray := prog_14_method_49_code
def yX1_readsFace : MethodName := ⟨RX1, "readsFace", "()V"⟩
def dkwX1_readsFace_7 : List UInt8 := [42, 5, 182, 0, 174, 42, 182, 0, 194, 42, 180, 0, 13, 5, 92, 46, 4, 96, 79, 177]
abbrev dktX1_readsFace_7 : List UInt8 := dkwX1_readsFace_7 ++ []
def dkwX1_readsFace_6 : List UInt8 := [180, 0, 165, 154, 0, 26, 42, 182, 0, 181, 153, 0, 19, 42, 180, 0, 13, 27, 184, 0, 212, 154, 0, 8]
abbrev dktX1_readsFace_6 : List UInt8 := dkwX1_readsFace_6 ++ dktX1_readsFace_7
def dkwX1_readsFace_5 : List UInt8 := [182, 0, 174, 167, 0, 16, 42, 180, 0, 13, 27, 29, 184, 0, 208, 42, 182, 0, 178, 167, 255, 196, 42]
abbrev dktX1_readsFace_5 : List UInt8 := dkwX1_readsFace_5 ++ dktX1_readsFace_6
def dkwX1_readsFace_4 : List UInt8 := [42, 180, 0, 143, 184, 0, 201, 62, 42, 180, 0, 13, 27, 29, 184, 0, 204, 154, 0, 11, 42, 5]
abbrev dktX1_readsFace_4 : List UInt8 := dkwX1_readsFace_4 ++ dktX1_readsFace_5
def dkwX1_readsFace_3 : List UInt8 := [42, 4, 182, 0, 174, 42, 180, 0, 165, 154, 0, 59, 42, 180, 0, 162, 4, 160, 0, 51, 42, 180, 0, 13]
abbrev dktX1_readsFace_3 : List UInt8 := dkwX1_readsFace_3 ++ dktX1_readsFace_4
def dkwX1_readsFace_2 : List UInt8 := [79, 42, 180, 0, 13, 16, 21, 16, 6, 27, 104, 96, 4, 96, 3, 79, 42, 180, 0, 162, 4, 159, 0, 8]
abbrev dktX1_readsFace_2 : List UInt8 := dkwX1_readsFace_2 ++ dktX1_readsFace_3
def dkwX1_readsFace_1 : List UInt8 := [182, 0, 191, 61, 42, 180, 0, 165, 158, 0, 4, 177, 42, 180, 0, 13, 16, 21, 16, 6, 27, 104, 96, 28]
abbrev dktX1_readsFace_1 : List UInt8 := dkwX1_readsFace_1 ++ dktX1_readsFace_2
def dkwX1_readsFace_0 : List UInt8 := [42, 180, 0, 13, 5, 46, 60, 27, 7, 160, 0, 8, 42, 6, 182, 0, 174, 42, 182, 0, 178, 42, 4, 6]
abbrev dktX1_readsFace_0 : List UInt8 := dkwX1_readsFace_0 ++ dktX1_readsFace_1
theorem dksX1_readsFace_0 : cX1_readsFace.data.toList.drop 0 = dktX1_readsFace_0 := by decide +kernel
theorem dksX1_readsFace_1 : cX1_readsFace.data.toList.drop 24 = dktX1_readsFace_1 := dk_seg dksX1_readsFace_0 24 rfl rfl
theorem dksX1_readsFace_2 : cX1_readsFace.data.toList.drop 48 = dktX1_readsFace_2 := dk_seg dksX1_readsFace_1 24 rfl rfl
theorem dksX1_readsFace_3 : cX1_readsFace.data.toList.drop 72 = dktX1_readsFace_3 := dk_seg dksX1_readsFace_2 24 rfl rfl
theorem dksX1_readsFace_4 : cX1_readsFace.data.toList.drop 96 = dktX1_readsFace_4 := dk_seg dksX1_readsFace_3 24 rfl rfl
theorem dksX1_readsFace_5 : cX1_readsFace.data.toList.drop 118 = dktX1_readsFace_5 := dk_seg dksX1_readsFace_4 22 rfl rfl
theorem dksX1_readsFace_6 : cX1_readsFace.data.toList.drop 141 = dktX1_readsFace_6 := dk_seg dksX1_readsFace_5 23 rfl rfl
theorem dksX1_readsFace_7 : cX1_readsFace.data.toList.drop 165 = dktX1_readsFace_7 := dk_seg dksX1_readsFace_6 24 rfl rfl
theorem dX1_readsFace_0 : decode cX1_readsFace 0 = .ok (.aload_n 0, 1) := dk_42 (dk_at dksX1_readsFace_0 0 rfl rfl)
theorem dX1_readsFace_1 : decode cX1_readsFace 1 = .ok (.getfield 13, 3) := dk_180 0 13 (dk_at dksX1_readsFace_0 1 rfl rfl)
theorem dX1_readsFace_4 : decode cX1_readsFace 4 = .ok (.iconst 2, 1) := dk_5 (dk_at dksX1_readsFace_0 4 rfl rfl)
theorem dX1_readsFace_5 : decode cX1_readsFace 5 = .ok (.iaload, 1) := dk_46 (dk_at dksX1_readsFace_0 5 rfl rfl)
theorem dX1_readsFace_6 : decode cX1_readsFace 6 = .ok (.istore_n 1, 1) := dk_60 (dk_at dksX1_readsFace_0 6 rfl rfl)
theorem dX1_readsFace_7 : decode cX1_readsFace 7 = .ok (.iload_n 1, 1) := dk_27 (dk_at dksX1_readsFace_0 7 rfl rfl)
theorem dX1_readsFace_8 : decode cX1_readsFace 8 = .ok (.iconst 4, 1) := dk_7 (dk_at dksX1_readsFace_0 8 rfl rfl)
theorem dX1_readsFace_9 : decode cX1_readsFace 9 = .ok (.if_icmp .ne 8, 3) := dk_160 0 8 (dk_at dksX1_readsFace_0 9 rfl rfl)
theorem dX1_readsFace_12 : decode cX1_readsFace 12 = .ok (.aload_n 0, 1) := dk_42 (dk_at dksX1_readsFace_0 12 rfl rfl)
theorem dX1_readsFace_13 : decode cX1_readsFace 13 = .ok (.iconst 3, 1) := dk_6 (dk_at dksX1_readsFace_0 13 rfl rfl)
theorem dX1_readsFace_14 : decode cX1_readsFace 14 = .ok (.invokevirtual 174, 3) := dk_182 0 174 (dk_at dksX1_readsFace_0 14 rfl rfl)
theorem dX1_readsFace_17 : decode cX1_readsFace 17 = .ok (.aload_n 0, 1) := dk_42 (dk_at dksX1_readsFace_0 17 rfl rfl)
theorem dX1_readsFace_18 : decode cX1_readsFace 18 = .ok (.invokevirtual 178, 3) := dk_182 0 178 (dk_at dksX1_readsFace_0 18 rfl rfl)
theorem dX1_readsFace_21 : decode cX1_readsFace 21 = .ok (.aload_n 0, 1) := dk_42 (dk_at dksX1_readsFace_0 21 rfl rfl)
theorem dX1_readsFace_22 : decode cX1_readsFace 22 = .ok (.iconst 1, 1) := dk_4 (dk_at dksX1_readsFace_0 22 rfl rfl)
theorem dX1_readsFace_23 : decode cX1_readsFace 23 = .ok (.iconst 3, 1) := dk_6 (dk_at dksX1_readsFace_0 23 rfl rfl)
theorem dX1_readsFace_24 : decode cX1_readsFace 24 = .ok (.invokevirtual 191, 3) := dk_182 0 191 (dk_at dksX1_readsFace_1 0 rfl rfl)
theorem dX1_readsFace_27 : decode cX1_readsFace 27 = .ok (.istore_n 2, 1) := dk_61 (dk_at dksX1_readsFace_1 3 rfl rfl)
theorem dX1_readsFace_28 : decode cX1_readsFace 28 = .ok (.aload_n 0, 1) := dk_42 (dk_at dksX1_readsFace_1 4 rfl rfl)
theorem dX1_readsFace_29 : decode cX1_readsFace 29 = .ok (.getfield 165, 3) := dk_180 0 165 (dk_at dksX1_readsFace_1 5 rfl rfl)
theorem dX1_readsFace_32 : decode cX1_readsFace 32 = .ok (.ifCond .le 4, 3) := dk_158 0 4 (dk_at dksX1_readsFace_1 8 rfl rfl)
theorem dX1_readsFace_35 : decode cX1_readsFace 35 = .ok (.return_, 1) := dk_177 (dk_at dksX1_readsFace_1 11 rfl rfl)
theorem dX1_readsFace_36 : decode cX1_readsFace 36 = .ok (.aload_n 0, 1) := dk_42 (dk_at dksX1_readsFace_1 12 rfl rfl)
theorem dX1_readsFace_37 : decode cX1_readsFace 37 = .ok (.getfield 13, 3) := dk_180 0 13 (dk_at dksX1_readsFace_1 13 rfl rfl)
theorem dX1_readsFace_40 : decode cX1_readsFace 40 = .ok (.bipush 21, 2) := dk_16 21 (dk_at dksX1_readsFace_1 16 rfl rfl)
theorem dX1_readsFace_42 : decode cX1_readsFace 42 = .ok (.bipush 6, 2) := dk_16 6 (dk_at dksX1_readsFace_1 18 rfl rfl)
theorem dX1_readsFace_44 : decode cX1_readsFace 44 = .ok (.iload_n 1, 1) := dk_27 (dk_at dksX1_readsFace_1 20 rfl rfl)
theorem dX1_readsFace_45 : decode cX1_readsFace 45 = .ok (.imul, 1) := dk_104 (dk_at dksX1_readsFace_1 21 rfl rfl)
theorem dX1_readsFace_46 : decode cX1_readsFace 46 = .ok (.iadd, 1) := dk_96 (dk_at dksX1_readsFace_1 22 rfl rfl)
theorem dX1_readsFace_47 : decode cX1_readsFace 47 = .ok (.iload_n 2, 1) := dk_28 (dk_at dksX1_readsFace_1 23 rfl rfl)
theorem dX1_readsFace_48 : decode cX1_readsFace 48 = .ok (.iastore, 1) := dk_79 (dk_at dksX1_readsFace_2 0 rfl rfl)
theorem dX1_readsFace_49 : decode cX1_readsFace 49 = .ok (.aload_n 0, 1) := dk_42 (dk_at dksX1_readsFace_2 1 rfl rfl)
theorem dX1_readsFace_50 : decode cX1_readsFace 50 = .ok (.getfield 13, 3) := dk_180 0 13 (dk_at dksX1_readsFace_2 2 rfl rfl)
theorem dX1_readsFace_53 : decode cX1_readsFace 53 = .ok (.bipush 21, 2) := dk_16 21 (dk_at dksX1_readsFace_2 5 rfl rfl)
theorem dX1_readsFace_55 : decode cX1_readsFace 55 = .ok (.bipush 6, 2) := dk_16 6 (dk_at dksX1_readsFace_2 7 rfl rfl)
theorem dX1_readsFace_57 : decode cX1_readsFace 57 = .ok (.iload_n 1, 1) := dk_27 (dk_at dksX1_readsFace_2 9 rfl rfl)
theorem dX1_readsFace_58 : decode cX1_readsFace 58 = .ok (.imul, 1) := dk_104 (dk_at dksX1_readsFace_2 10 rfl rfl)
theorem dX1_readsFace_59 : decode cX1_readsFace 59 = .ok (.iadd, 1) := dk_96 (dk_at dksX1_readsFace_2 11 rfl rfl)
theorem dX1_readsFace_60 : decode cX1_readsFace 60 = .ok (.iconst 1, 1) := dk_4 (dk_at dksX1_readsFace_2 12 rfl rfl)
theorem dX1_readsFace_61 : decode cX1_readsFace 61 = .ok (.iadd, 1) := dk_96 (dk_at dksX1_readsFace_2 13 rfl rfl)
theorem dX1_readsFace_62 : decode cX1_readsFace 62 = .ok (.iconst 0, 1) := dk_3 (dk_at dksX1_readsFace_2 14 rfl rfl)
theorem dX1_readsFace_63 : decode cX1_readsFace 63 = .ok (.iastore, 1) := dk_79 (dk_at dksX1_readsFace_2 15 rfl rfl)
theorem dX1_readsFace_64 : decode cX1_readsFace 64 = .ok (.aload_n 0, 1) := dk_42 (dk_at dksX1_readsFace_2 16 rfl rfl)
theorem dX1_readsFace_65 : decode cX1_readsFace 65 = .ok (.getfield 162, 3) := dk_180 0 162 (dk_at dksX1_readsFace_2 17 rfl rfl)
theorem dX1_readsFace_68 : decode cX1_readsFace 68 = .ok (.iconst 1, 1) := dk_4 (dk_at dksX1_readsFace_2 20 rfl rfl)
theorem dX1_readsFace_69 : decode cX1_readsFace 69 = .ok (.if_icmp .eq 8, 3) := dk_159 0 8 (dk_at dksX1_readsFace_2 21 rfl rfl)
theorem dX1_readsFace_72 : decode cX1_readsFace 72 = .ok (.aload_n 0, 1) := dk_42 (dk_at dksX1_readsFace_3 0 rfl rfl)
theorem dX1_readsFace_73 : decode cX1_readsFace 73 = .ok (.iconst 1, 1) := dk_4 (dk_at dksX1_readsFace_3 1 rfl rfl)
theorem dX1_readsFace_74 : decode cX1_readsFace 74 = .ok (.invokevirtual 174, 3) := dk_182 0 174 (dk_at dksX1_readsFace_3 2 rfl rfl)
theorem dX1_readsFace_77 : decode cX1_readsFace 77 = .ok (.aload_n 0, 1) := dk_42 (dk_at dksX1_readsFace_3 5 rfl rfl)
theorem dX1_readsFace_78 : decode cX1_readsFace 78 = .ok (.getfield 165, 3) := dk_180 0 165 (dk_at dksX1_readsFace_3 6 rfl rfl)
theorem dX1_readsFace_81 : decode cX1_readsFace 81 = .ok (.ifCond .ne 59, 3) := dk_154 0 59 (dk_at dksX1_readsFace_3 9 rfl rfl)
theorem dX1_readsFace_84 : decode cX1_readsFace 84 = .ok (.aload_n 0, 1) := dk_42 (dk_at dksX1_readsFace_3 12 rfl rfl)
theorem dX1_readsFace_85 : decode cX1_readsFace 85 = .ok (.getfield 162, 3) := dk_180 0 162 (dk_at dksX1_readsFace_3 13 rfl rfl)
theorem dX1_readsFace_88 : decode cX1_readsFace 88 = .ok (.iconst 1, 1) := dk_4 (dk_at dksX1_readsFace_3 16 rfl rfl)
theorem dX1_readsFace_89 : decode cX1_readsFace 89 = .ok (.if_icmp .ne 51, 3) := dk_160 0 51 (dk_at dksX1_readsFace_3 17 rfl rfl)
theorem dX1_readsFace_92 : decode cX1_readsFace 92 = .ok (.aload_n 0, 1) := dk_42 (dk_at dksX1_readsFace_3 20 rfl rfl)
theorem dX1_readsFace_93 : decode cX1_readsFace 93 = .ok (.getfield 13, 3) := dk_180 0 13 (dk_at dksX1_readsFace_3 21 rfl rfl)
theorem dX1_readsFace_96 : decode cX1_readsFace 96 = .ok (.aload_n 0, 1) := dk_42 (dk_at dksX1_readsFace_4 0 rfl rfl)
theorem dX1_readsFace_97 : decode cX1_readsFace 97 = .ok (.getfield 143, 3) := dk_180 0 143 (dk_at dksX1_readsFace_4 1 rfl rfl)
theorem dX1_readsFace_100 : decode cX1_readsFace 100 = .ok (.invokestatic 201, 3) := dk_184 0 201 (dk_at dksX1_readsFace_4 4 rfl rfl)
theorem dX1_readsFace_103 : decode cX1_readsFace 103 = .ok (.istore_n 3, 1) := dk_62 (dk_at dksX1_readsFace_4 7 rfl rfl)
theorem dX1_readsFace_104 : decode cX1_readsFace 104 = .ok (.aload_n 0, 1) := dk_42 (dk_at dksX1_readsFace_4 8 rfl rfl)
theorem dX1_readsFace_105 : decode cX1_readsFace 105 = .ok (.getfield 13, 3) := dk_180 0 13 (dk_at dksX1_readsFace_4 9 rfl rfl)
theorem dX1_readsFace_108 : decode cX1_readsFace 108 = .ok (.iload_n 1, 1) := dk_27 (dk_at dksX1_readsFace_4 12 rfl rfl)
theorem dX1_readsFace_109 : decode cX1_readsFace 109 = .ok (.iload_n 3, 1) := dk_29 (dk_at dksX1_readsFace_4 13 rfl rfl)
theorem dX1_readsFace_110 : decode cX1_readsFace 110 = .ok (.invokestatic 204, 3) := dk_184 0 204 (dk_at dksX1_readsFace_4 14 rfl rfl)
theorem dX1_readsFace_113 : decode cX1_readsFace 113 = .ok (.ifCond .ne 11, 3) := dk_154 0 11 (dk_at dksX1_readsFace_4 17 rfl rfl)
theorem dX1_readsFace_116 : decode cX1_readsFace 116 = .ok (.aload_n 0, 1) := dk_42 (dk_at dksX1_readsFace_4 20 rfl rfl)
theorem dX1_readsFace_117 : decode cX1_readsFace 117 = .ok (.iconst 2, 1) := dk_5 (dk_at dksX1_readsFace_4 21 rfl rfl)
theorem dX1_readsFace_118 : decode cX1_readsFace 118 = .ok (.invokevirtual 174, 3) := dk_182 0 174 (dk_at dksX1_readsFace_5 0 rfl rfl)
theorem dX1_readsFace_121 : decode cX1_readsFace 121 = .ok (.goto 16, 3) := dk_167 0 16 (dk_at dksX1_readsFace_5 3 rfl rfl)
theorem dX1_readsFace_124 : decode cX1_readsFace 124 = .ok (.aload_n 0, 1) := dk_42 (dk_at dksX1_readsFace_5 6 rfl rfl)
theorem dX1_readsFace_125 : decode cX1_readsFace 125 = .ok (.getfield 13, 3) := dk_180 0 13 (dk_at dksX1_readsFace_5 7 rfl rfl)
theorem dX1_readsFace_128 : decode cX1_readsFace 128 = .ok (.iload_n 1, 1) := dk_27 (dk_at dksX1_readsFace_5 10 rfl rfl)
theorem dX1_readsFace_129 : decode cX1_readsFace 129 = .ok (.iload_n 3, 1) := dk_29 (dk_at dksX1_readsFace_5 11 rfl rfl)
theorem dX1_readsFace_130 : decode cX1_readsFace 130 = .ok (.invokestatic 208, 3) := dk_184 0 208 (dk_at dksX1_readsFace_5 12 rfl rfl)
theorem dX1_readsFace_133 : decode cX1_readsFace 133 = .ok (.aload_n 0, 1) := dk_42 (dk_at dksX1_readsFace_5 15 rfl rfl)
theorem dX1_readsFace_134 : decode cX1_readsFace 134 = .ok (.invokevirtual 178, 3) := dk_182 0 178 (dk_at dksX1_readsFace_5 16 rfl rfl)
theorem dX1_readsFace_137 : decode cX1_readsFace 137 = .ok (.goto (-60), 3) := dk_167 255 196 (dk_at dksX1_readsFace_5 19 rfl rfl)
theorem dX1_readsFace_140 : decode cX1_readsFace 140 = .ok (.aload_n 0, 1) := dk_42 (dk_at dksX1_readsFace_5 22 rfl rfl)
theorem dX1_readsFace_141 : decode cX1_readsFace 141 = .ok (.getfield 165, 3) := dk_180 0 165 (dk_at dksX1_readsFace_6 0 rfl rfl)
theorem dX1_readsFace_144 : decode cX1_readsFace 144 = .ok (.ifCond .ne 26, 3) := dk_154 0 26 (dk_at dksX1_readsFace_6 3 rfl rfl)
theorem dX1_readsFace_147 : decode cX1_readsFace 147 = .ok (.aload_n 0, 1) := dk_42 (dk_at dksX1_readsFace_6 6 rfl rfl)
theorem dX1_readsFace_148 : decode cX1_readsFace 148 = .ok (.invokevirtual 181, 3) := dk_182 0 181 (dk_at dksX1_readsFace_6 7 rfl rfl)
theorem dX1_readsFace_151 : decode cX1_readsFace 151 = .ok (.ifCond .eq 19, 3) := dk_153 0 19 (dk_at dksX1_readsFace_6 10 rfl rfl)
theorem dX1_readsFace_154 : decode cX1_readsFace 154 = .ok (.aload_n 0, 1) := dk_42 (dk_at dksX1_readsFace_6 13 rfl rfl)
theorem dX1_readsFace_155 : decode cX1_readsFace 155 = .ok (.getfield 13, 3) := dk_180 0 13 (dk_at dksX1_readsFace_6 14 rfl rfl)
theorem dX1_readsFace_158 : decode cX1_readsFace 158 = .ok (.iload_n 1, 1) := dk_27 (dk_at dksX1_readsFace_6 17 rfl rfl)
theorem dX1_readsFace_159 : decode cX1_readsFace 159 = .ok (.invokestatic 212, 3) := dk_184 0 212 (dk_at dksX1_readsFace_6 18 rfl rfl)
theorem dX1_readsFace_162 : decode cX1_readsFace 162 = .ok (.ifCond .ne 8, 3) := dk_154 0 8 (dk_at dksX1_readsFace_6 21 rfl rfl)
theorem dX1_readsFace_165 : decode cX1_readsFace 165 = .ok (.aload_n 0, 1) := dk_42 (dk_at dksX1_readsFace_7 0 rfl rfl)
theorem dX1_readsFace_166 : decode cX1_readsFace 166 = .ok (.iconst 2, 1) := dk_5 (dk_at dksX1_readsFace_7 1 rfl rfl)
theorem dX1_readsFace_167 : decode cX1_readsFace 167 = .ok (.invokevirtual 174, 3) := dk_182 0 174 (dk_at dksX1_readsFace_7 2 rfl rfl)
theorem dX1_readsFace_170 : decode cX1_readsFace 170 = .ok (.aload_n 0, 1) := dk_42 (dk_at dksX1_readsFace_7 5 rfl rfl)
theorem dX1_readsFace_171 : decode cX1_readsFace 171 = .ok (.invokevirtual 194, 3) := dk_182 0 194 (dk_at dksX1_readsFace_7 6 rfl rfl)
theorem dX1_readsFace_174 : decode cX1_readsFace 174 = .ok (.aload_n 0, 1) := dk_42 (dk_at dksX1_readsFace_7 9 rfl rfl)
theorem dX1_readsFace_175 : decode cX1_readsFace 175 = .ok (.getfield 13, 3) := dk_180 0 13 (dk_at dksX1_readsFace_7 10 rfl rfl)
theorem dX1_readsFace_178 : decode cX1_readsFace 178 = .ok (.iconst 2, 1) := dk_5 (dk_at dksX1_readsFace_7 13 rfl rfl)
theorem dX1_readsFace_179 : decode cX1_readsFace 179 = .ok (.dup2, 1) := dk_92 (dk_at dksX1_readsFace_7 14 rfl rfl)
theorem dX1_readsFace_180 : decode cX1_readsFace 180 = .ok (.iaload, 1) := dk_46 (dk_at dksX1_readsFace_7 15 rfl rfl)
theorem dX1_readsFace_181 : decode cX1_readsFace 181 = .ok (.iconst 1, 1) := dk_4 (dk_at dksX1_readsFace_7 16 rfl rfl)
theorem dX1_readsFace_182 : decode cX1_readsFace 182 = .ok (.iadd, 1) := dk_96 (dk_at dksX1_readsFace_7 17 rfl rfl)
theorem dX1_readsFace_183 : decode cX1_readsFace 183 = .ok (.iastore, 1) := dk_79 (dk_at dksX1_readsFace_7 18 rfl rfl)
theorem dX1_readsFace_184 : decode cX1_readsFace 184 = .ok (.return_, 1) := dk_177 (dk_at dksX1_readsFace_7 19 rfl rfl)
abbrev cX1_told : ByteArray := prog_14_method_43_code
def yX1_told : MethodName := ⟨RX1, "told", "([II)I"⟩
def dkwX1_told_3 : List UInt8 := [4, 96, 167, 0, 7, 28, 116, 4, 100, 172]
abbrev dktX1_told_3 : List UInt8 := dkwX1_told_3 ++ []
def dkwX1_told_2 : List UInt8 := [4, 46, 161, 0, 7, 3, 167, 0, 27, 27, 133, 20, 0, 146, 20, 0, 148, 184, 0, 150, 153, 0, 9, 28]
abbrev dktX1_told_2 : List UInt8 := dkwX1_told_2 ++ dktX1_told_3
def dkwX1_told_1 : List UInt8 := [20, 0, 154, 20, 0, 156, 184, 0, 150, 153, 0, 10, 27, 16, 65, 100, 167, 0, 5, 16, 9, 61, 28, 42]
abbrev dktX1_told_1 : List UInt8 := dkwX1_told_1 ++ dktX1_told_2
def dkwX1_told_0 : List UInt8 := [27, 133, 20, 0, 146, 20, 0, 148, 184, 0, 150, 153, 0, 10, 27, 16, 97, 100, 167, 0, 26, 27, 133]
abbrev dktX1_told_0 : List UInt8 := dkwX1_told_0 ++ dktX1_told_1
theorem dksX1_told_0 : cX1_told.data.toList.drop 0 = dktX1_told_0 := by decide +kernel
theorem dksX1_told_1 : cX1_told.data.toList.drop 23 = dktX1_told_1 := dk_seg dksX1_told_0 23 rfl rfl
theorem dksX1_told_2 : cX1_told.data.toList.drop 47 = dktX1_told_2 := dk_seg dksX1_told_1 24 rfl rfl
theorem dksX1_told_3 : cX1_told.data.toList.drop 71 = dktX1_told_3 := dk_seg dksX1_told_2 24 rfl rfl
theorem dX1_told_0 : decode cX1_told 0 = .ok (.iload_n 1, 1) := dk_27 (dk_at dksX1_told_0 0 rfl rfl)
theorem dX1_told_1 : decode cX1_told 1 = .ok (.i2l, 1) := dk_133 (dk_at dksX1_told_0 1 rfl rfl)
theorem dX1_told_2 : decode cX1_told 2 = .ok (.ldc2_w 146, 3) := dk_20 0 146 (dk_at dksX1_told_0 2 rfl rfl)
theorem dX1_told_5 : decode cX1_told 5 = .ok (.ldc2_w 148, 3) := dk_20 0 148 (dk_at dksX1_told_0 5 rfl rfl)
theorem dX1_told_8 : decode cX1_told 8 = .ok (.invokestatic 150, 3) := dk_184 0 150 (dk_at dksX1_told_0 8 rfl rfl)
theorem dX1_told_11 : decode cX1_told 11 = .ok (.ifCond .eq 10, 3) := dk_153 0 10 (dk_at dksX1_told_0 11 rfl rfl)
theorem dX1_told_14 : decode cX1_told 14 = .ok (.iload_n 1, 1) := dk_27 (dk_at dksX1_told_0 14 rfl rfl)
theorem dX1_told_15 : decode cX1_told 15 = .ok (.bipush 97, 2) := dk_16 97 (dk_at dksX1_told_0 15 rfl rfl)
theorem dX1_told_17 : decode cX1_told 17 = .ok (.isub, 1) := dk_100 (dk_at dksX1_told_0 17 rfl rfl)
theorem dX1_told_18 : decode cX1_told 18 = .ok (.goto 26, 3) := dk_167 0 26 (dk_at dksX1_told_0 18 rfl rfl)
theorem dX1_told_21 : decode cX1_told 21 = .ok (.iload_n 1, 1) := dk_27 (dk_at dksX1_told_0 21 rfl rfl)
theorem dX1_told_22 : decode cX1_told 22 = .ok (.i2l, 1) := dk_133 (dk_at dksX1_told_0 22 rfl rfl)
theorem dX1_told_23 : decode cX1_told 23 = .ok (.ldc2_w 154, 3) := dk_20 0 154 (dk_at dksX1_told_1 0 rfl rfl)
theorem dX1_told_26 : decode cX1_told 26 = .ok (.ldc2_w 156, 3) := dk_20 0 156 (dk_at dksX1_told_1 3 rfl rfl)
theorem dX1_told_29 : decode cX1_told 29 = .ok (.invokestatic 150, 3) := dk_184 0 150 (dk_at dksX1_told_1 6 rfl rfl)
theorem dX1_told_32 : decode cX1_told 32 = .ok (.ifCond .eq 10, 3) := dk_153 0 10 (dk_at dksX1_told_1 9 rfl rfl)
theorem dX1_told_35 : decode cX1_told 35 = .ok (.iload_n 1, 1) := dk_27 (dk_at dksX1_told_1 12 rfl rfl)
theorem dX1_told_36 : decode cX1_told 36 = .ok (.bipush 65, 2) := dk_16 65 (dk_at dksX1_told_1 13 rfl rfl)
theorem dX1_told_38 : decode cX1_told 38 = .ok (.isub, 1) := dk_100 (dk_at dksX1_told_1 15 rfl rfl)
theorem dX1_told_39 : decode cX1_told 39 = .ok (.goto 5, 3) := dk_167 0 5 (dk_at dksX1_told_1 16 rfl rfl)
theorem dX1_told_42 : decode cX1_told 42 = .ok (.bipush 9, 2) := dk_16 9 (dk_at dksX1_told_1 19 rfl rfl)
theorem dX1_told_44 : decode cX1_told 44 = .ok (.istore_n 2, 1) := dk_61 (dk_at dksX1_told_1 21 rfl rfl)
theorem dX1_told_45 : decode cX1_told 45 = .ok (.iload_n 2, 1) := dk_28 (dk_at dksX1_told_1 22 rfl rfl)
theorem dX1_told_46 : decode cX1_told 46 = .ok (.aload_n 0, 1) := dk_42 (dk_at dksX1_told_1 23 rfl rfl)
theorem dX1_told_47 : decode cX1_told 47 = .ok (.iconst 1, 1) := dk_4 (dk_at dksX1_told_2 0 rfl rfl)
theorem dX1_told_48 : decode cX1_told 48 = .ok (.iaload, 1) := dk_46 (dk_at dksX1_told_2 1 rfl rfl)
theorem dX1_told_49 : decode cX1_told 49 = .ok (.if_icmp .lt 7, 3) := dk_161 0 7 (dk_at dksX1_told_2 2 rfl rfl)
theorem dX1_told_52 : decode cX1_told 52 = .ok (.iconst 0, 1) := dk_3 (dk_at dksX1_told_2 5 rfl rfl)
theorem dX1_told_53 : decode cX1_told 53 = .ok (.goto 27, 3) := dk_167 0 27 (dk_at dksX1_told_2 6 rfl rfl)
theorem dX1_told_56 : decode cX1_told 56 = .ok (.iload_n 1, 1) := dk_27 (dk_at dksX1_told_2 9 rfl rfl)
theorem dX1_told_57 : decode cX1_told 57 = .ok (.i2l, 1) := dk_133 (dk_at dksX1_told_2 10 rfl rfl)
theorem dX1_told_58 : decode cX1_told 58 = .ok (.ldc2_w 146, 3) := dk_20 0 146 (dk_at dksX1_told_2 11 rfl rfl)
theorem dX1_told_61 : decode cX1_told 61 = .ok (.ldc2_w 148, 3) := dk_20 0 148 (dk_at dksX1_told_2 14 rfl rfl)
theorem dX1_told_64 : decode cX1_told 64 = .ok (.invokestatic 150, 3) := dk_184 0 150 (dk_at dksX1_told_2 17 rfl rfl)
theorem dX1_told_67 : decode cX1_told 67 = .ok (.ifCond .eq 9, 3) := dk_153 0 9 (dk_at dksX1_told_2 20 rfl rfl)
theorem dX1_told_70 : decode cX1_told 70 = .ok (.iload_n 2, 1) := dk_28 (dk_at dksX1_told_2 23 rfl rfl)
theorem dX1_told_71 : decode cX1_told 71 = .ok (.iconst 1, 1) := dk_4 (dk_at dksX1_told_3 0 rfl rfl)
theorem dX1_told_72 : decode cX1_told 72 = .ok (.iadd, 1) := dk_96 (dk_at dksX1_told_3 1 rfl rfl)
theorem dX1_told_73 : decode cX1_told 73 = .ok (.goto 7, 3) := dk_167 0 7 (dk_at dksX1_told_3 2 rfl rfl)
theorem dX1_told_76 : decode cX1_told 76 = .ok (.iload_n 2, 1) := dk_28 (dk_at dksX1_told_3 5 rfl rfl)
theorem dX1_told_77 : decode cX1_told 77 = .ok (.ineg, 1) := dk_116 (dk_at dksX1_told_3 6 rfl rfl)
theorem dX1_told_78 : decode cX1_told 78 = .ok (.iconst 1, 1) := dk_4 (dk_at dksX1_told_3 7 rfl rfl)
theorem dX1_told_79 : decode cX1_told 79 = .ok (.isub, 1) := dk_100 (dk_at dksX1_told_3 8 rfl rfl)
theorem dX1_told_80 : decode cX1_told 80 = .ok (.ireturn, 1) := dk_172 (dk_at dksX1_told_3 9 rfl rfl)
abbrev cX1_isNext : ByteArray := prog_14_method_44_code
def yX1_isNext : MethodName := ⟨RX1, "isNext", "([III)Z"⟩
def dkwX1_isNext_1 : List UInt8 := [100, 184, 0, 64, 184, 0, 185, 42, 28, 184, 0, 188, 160, 0, 7, 4, 167, 0, 4, 3, 172]
abbrev dktX1_isNext_1 : List UInt8 := dkwX1_isNext_1 ++ []
def dkwX1_isNext_0 : List UInt8 := [42, 27, 184, 0, 60, 62, 28, 153, 0, 36, 29, 7, 162, 0, 31, 29, 153, 0, 23, 42, 42, 27, 29, 4]
abbrev dktX1_isNext_0 : List UInt8 := dkwX1_isNext_0 ++ dktX1_isNext_1
theorem dksX1_isNext_0 : cX1_isNext.data.toList.drop 0 = dktX1_isNext_0 := by decide +kernel
theorem dksX1_isNext_1 : cX1_isNext.data.toList.drop 24 = dktX1_isNext_1 := dk_seg dksX1_isNext_0 24 rfl rfl
theorem dX1_isNext_0 : decode cX1_isNext 0 = .ok (.aload_n 0, 1) := dk_42 (dk_at dksX1_isNext_0 0 rfl rfl)
theorem dX1_isNext_1 : decode cX1_isNext 1 = .ok (.iload_n 1, 1) := dk_27 (dk_at dksX1_isNext_0 1 rfl rfl)
theorem dX1_isNext_2 : decode cX1_isNext 2 = .ok (.invokestatic 60, 3) := dk_184 0 60 (dk_at dksX1_isNext_0 2 rfl rfl)
theorem dX1_isNext_5 : decode cX1_isNext 5 = .ok (.istore_n 3, 1) := dk_62 (dk_at dksX1_isNext_0 5 rfl rfl)
theorem dX1_isNext_6 : decode cX1_isNext 6 = .ok (.iload_n 2, 1) := dk_28 (dk_at dksX1_isNext_0 6 rfl rfl)
theorem dX1_isNext_7 : decode cX1_isNext 7 = .ok (.ifCond .eq 36, 3) := dk_153 0 36 (dk_at dksX1_isNext_0 7 rfl rfl)
theorem dX1_isNext_10 : decode cX1_isNext 10 = .ok (.iload_n 3, 1) := dk_29 (dk_at dksX1_isNext_0 10 rfl rfl)
theorem dX1_isNext_11 : decode cX1_isNext 11 = .ok (.iconst 4, 1) := dk_7 (dk_at dksX1_isNext_0 11 rfl rfl)
theorem dX1_isNext_12 : decode cX1_isNext 12 = .ok (.if_icmp .ge 31, 3) := dk_162 0 31 (dk_at dksX1_isNext_0 12 rfl rfl)
theorem dX1_isNext_15 : decode cX1_isNext 15 = .ok (.iload_n 3, 1) := dk_29 (dk_at dksX1_isNext_0 15 rfl rfl)
theorem dX1_isNext_16 : decode cX1_isNext 16 = .ok (.ifCond .eq 23, 3) := dk_153 0 23 (dk_at dksX1_isNext_0 16 rfl rfl)
theorem dX1_isNext_19 : decode cX1_isNext 19 = .ok (.aload_n 0, 1) := dk_42 (dk_at dksX1_isNext_0 19 rfl rfl)
theorem dX1_isNext_20 : decode cX1_isNext 20 = .ok (.aload_n 0, 1) := dk_42 (dk_at dksX1_isNext_0 20 rfl rfl)
theorem dX1_isNext_21 : decode cX1_isNext 21 = .ok (.iload_n 1, 1) := dk_27 (dk_at dksX1_isNext_0 21 rfl rfl)
theorem dX1_isNext_22 : decode cX1_isNext 22 = .ok (.iload_n 3, 1) := dk_29 (dk_at dksX1_isNext_0 22 rfl rfl)
theorem dX1_isNext_23 : decode cX1_isNext 23 = .ok (.iconst 1, 1) := dk_4 (dk_at dksX1_isNext_0 23 rfl rfl)
theorem dX1_isNext_24 : decode cX1_isNext 24 = .ok (.isub, 1) := dk_100 (dk_at dksX1_isNext_1 0 rfl rfl)
theorem dX1_isNext_25 : decode cX1_isNext 25 = .ok (.invokestatic 64, 3) := dk_184 0 64 (dk_at dksX1_isNext_1 1 rfl rfl)
theorem dX1_isNext_28 : decode cX1_isNext 28 = .ok (.invokestatic 185, 3) := dk_184 0 185 (dk_at dksX1_isNext_1 4 rfl rfl)
theorem dX1_isNext_31 : decode cX1_isNext 31 = .ok (.aload_n 0, 1) := dk_42 (dk_at dksX1_isNext_1 7 rfl rfl)
theorem dX1_isNext_32 : decode cX1_isNext 32 = .ok (.iload_n 2, 1) := dk_28 (dk_at dksX1_isNext_1 8 rfl rfl)
theorem dX1_isNext_33 : decode cX1_isNext 33 = .ok (.invokestatic 188, 3) := dk_184 0 188 (dk_at dksX1_isNext_1 9 rfl rfl)
theorem dX1_isNext_36 : decode cX1_isNext 36 = .ok (.if_icmp .ne 7, 3) := dk_160 0 7 (dk_at dksX1_isNext_1 12 rfl rfl)
theorem dX1_isNext_39 : decode cX1_isNext 39 = .ok (.iconst 1, 1) := dk_4 (dk_at dksX1_isNext_1 15 rfl rfl)
theorem dX1_isNext_40 : decode cX1_isNext 40 = .ok (.goto 4, 3) := dk_167 0 4 (dk_at dksX1_isNext_1 16 rfl rfl)
theorem dX1_isNext_43 : decode cX1_isNext 43 = .ok (.iconst 0, 1) := dk_3 (dk_at dksX1_isNext_1 19 rfl rfl)
theorem dX1_isNext_44 : decode cX1_isNext 44 = .ok (.ireturn, 1) := dk_172 (dk_at dksX1_isNext_1 20 rfl rfl)
abbrev cX1_many : ByteArray := prog_14_method_12_code
def yX1_many : MethodName := ⟨RX1, "many", "([II)I"⟩
def dkwX1_many_0 : List UInt8 := [42, 16, 21, 16, 6, 27, 104, 96, 4, 96, 46, 172]
abbrev dktX1_many_0 : List UInt8 := dkwX1_many_0 ++ []
theorem dksX1_many_0 : cX1_many.data.toList.drop 0 = dktX1_many_0 := by decide +kernel
theorem dX1_many_0 : decode cX1_many 0 = .ok (.aload_n 0, 1) := dk_42 (dk_at dksX1_many_0 0 rfl rfl)
theorem dX1_many_1 : decode cX1_many 1 = .ok (.bipush 21, 2) := dk_16 21 (dk_at dksX1_many_0 1 rfl rfl)
theorem dX1_many_3 : decode cX1_many 3 = .ok (.bipush 6, 2) := dk_16 6 (dk_at dksX1_many_0 3 rfl rfl)
theorem dX1_many_5 : decode cX1_many 5 = .ok (.iload_n 1, 1) := dk_27 (dk_at dksX1_many_0 5 rfl rfl)
theorem dX1_many_6 : decode cX1_many 6 = .ok (.imul, 1) := dk_104 (dk_at dksX1_many_0 6 rfl rfl)
theorem dX1_many_7 : decode cX1_many 7 = .ok (.iadd, 1) := dk_96 (dk_at dksX1_many_0 7 rfl rfl)
theorem dX1_many_8 : decode cX1_many 8 = .ok (.iconst 1, 1) := dk_4 (dk_at dksX1_many_0 8 rfl rfl)
theorem dX1_many_9 : decode cX1_many 9 = .ok (.iadd, 1) := dk_96 (dk_at dksX1_many_0 9 rfl rfl)
theorem dX1_many_10 : decode cX1_many 10 = .ok (.iaload, 1) := dk_46 (dk_at dksX1_many_0 10 rfl rfl)
theorem dX1_many_11 : decode cX1_many 11 = .ok (.ireturn, 1) := dk_172 (dk_at dksX1_many_0 11 rfl rfl)
abbrev cX1_letter : ByteArray := prog_14_method_11_code
def yX1_letter : MethodName := ⟨RX1, "letter", "([III)I"⟩
def dkwX1_letter_0 : List UInt8 := [42, 16, 21, 16, 6, 27, 104, 96, 5, 96, 28, 96, 46, 172]
abbrev dktX1_letter_0 : List UInt8 := dkwX1_letter_0 ++ []
theorem dksX1_letter_0 : cX1_letter.data.toList.drop 0 = dktX1_letter_0 := by decide +kernel
theorem dX1_letter_0 : decode cX1_letter 0 = .ok (.aload_n 0, 1) := dk_42 (dk_at dksX1_letter_0 0 rfl rfl)
theorem dX1_letter_1 : decode cX1_letter 1 = .ok (.bipush 21, 2) := dk_16 21 (dk_at dksX1_letter_0 1 rfl rfl)
theorem dX1_letter_3 : decode cX1_letter 3 = .ok (.bipush 6, 2) := dk_16 6 (dk_at dksX1_letter_0 3 rfl rfl)
theorem dX1_letter_5 : decode cX1_letter 5 = .ok (.iload_n 1, 1) := dk_27 (dk_at dksX1_letter_0 5 rfl rfl)
theorem dX1_letter_6 : decode cX1_letter 6 = .ok (.imul, 1) := dk_104 (dk_at dksX1_letter_0 6 rfl rfl)
theorem dX1_letter_7 : decode cX1_letter 7 = .ok (.iadd, 1) := dk_96 (dk_at dksX1_letter_0 7 rfl rfl)
theorem dX1_letter_8 : decode cX1_letter 8 = .ok (.iconst 2, 1) := dk_5 (dk_at dksX1_letter_0 8 rfl rfl)
theorem dX1_letter_9 : decode cX1_letter 9 = .ok (.iadd, 1) := dk_96 (dk_at dksX1_letter_0 9 rfl rfl)
theorem dX1_letter_10 : decode cX1_letter 10 = .ok (.iload_n 2, 1) := dk_28 (dk_at dksX1_letter_0 10 rfl rfl)
theorem dX1_letter_11 : decode cX1_letter 11 = .ok (.iadd, 1) := dk_96 (dk_at dksX1_letter_0 11 rfl rfl)
theorem dX1_letter_12 : decode cX1_letter 12 = .ok (.iaload, 1) := dk_46 (dk_at dksX1_letter_0 12 rfl rfl)
theorem dX1_letter_13 : decode cX1_letter 13 = .ok (.ireturn, 1) := dk_172 (dk_at dksX1_letter_0 13 rfl rfl)
abbrev cX1_endOf : ByteArray := prog_14_method_15_code
def yX1_endOf : MethodName := ⟨RX1, "endOf", "([II)I"⟩
def dkwX1_endOf_0 : List UInt8 := [42, 27, 184, 0, 52, 27, 156, 0, 7, 3, 167, 0, 4, 4, 184, 0, 56, 172]
abbrev dktX1_endOf_0 : List UInt8 := dkwX1_endOf_0 ++ []
theorem dksX1_endOf_0 : cX1_endOf.data.toList.drop 0 = dktX1_endOf_0 := by decide +kernel
theorem dX1_endOf_0 : decode cX1_endOf 0 = .ok (.aload_n 0, 1) := dk_42 (dk_at dksX1_endOf_0 0 rfl rfl)
theorem dX1_endOf_1 : decode cX1_endOf 1 = .ok (.iload_n 1, 1) := dk_27 (dk_at dksX1_endOf_0 1 rfl rfl)
theorem dX1_endOf_2 : decode cX1_endOf 2 = .ok (.invokestatic 52, 3) := dk_184 0 52 (dk_at dksX1_endOf_0 2 rfl rfl)
theorem dX1_endOf_5 : decode cX1_endOf 5 = .ok (.iload_n 1, 1) := dk_27 (dk_at dksX1_endOf_0 5 rfl rfl)
theorem dX1_endOf_6 : decode cX1_endOf 6 = .ok (.ifCond .ge 7, 3) := dk_156 0 7 (dk_at dksX1_endOf_0 6 rfl rfl)
theorem dX1_endOf_9 : decode cX1_endOf 9 = .ok (.iconst 0, 1) := dk_3 (dk_at dksX1_endOf_0 9 rfl rfl)
theorem dX1_endOf_10 : decode cX1_endOf 10 = .ok (.goto 4, 3) := dk_167 0 4 (dk_at dksX1_endOf_0 10 rfl rfl)
theorem dX1_endOf_13 : decode cX1_endOf 13 = .ok (.iconst 1, 1) := dk_4 (dk_at dksX1_endOf_0 13 rfl rfl)
theorem dX1_endOf_14 : decode cX1_endOf 14 = .ok (.invokestatic 56, 3) := dk_184 0 56 (dk_at dksX1_endOf_0 14 rfl rfl)
theorem dX1_endOf_17 : decode cX1_endOf 17 = .ok (.ireturn, 1) := dk_172 (dk_at dksX1_endOf_0 17 rfl rfl)
abbrev cX1_edgeOf : ByteArray := prog_14_method_13_code
def yX1_edgeOf : MethodName := ⟨RX1, "edgeOf", "(I)I"⟩
def dkwX1_edgeOf_0 : List UInt8 := [26, 156, 0, 10, 26, 116, 4, 100, 167, 0, 6, 26, 4, 100, 172]
abbrev dktX1_edgeOf_0 : List UInt8 := dkwX1_edgeOf_0 ++ []
theorem dksX1_edgeOf_0 : cX1_edgeOf.data.toList.drop 0 = dktX1_edgeOf_0 := by decide +kernel
theorem dX1_edgeOf_0 : decode cX1_edgeOf 0 = .ok (.iload_n 0, 1) := dk_26 (dk_at dksX1_edgeOf_0 0 rfl rfl)
theorem dX1_edgeOf_1 : decode cX1_edgeOf 1 = .ok (.ifCond .ge 10, 3) := dk_156 0 10 (dk_at dksX1_edgeOf_0 1 rfl rfl)
theorem dX1_edgeOf_4 : decode cX1_edgeOf 4 = .ok (.iload_n 0, 1) := dk_26 (dk_at dksX1_edgeOf_0 4 rfl rfl)
theorem dX1_edgeOf_5 : decode cX1_edgeOf 5 = .ok (.ineg, 1) := dk_116 (dk_at dksX1_edgeOf_0 5 rfl rfl)
theorem dX1_edgeOf_6 : decode cX1_edgeOf 6 = .ok (.iconst 1, 1) := dk_4 (dk_at dksX1_edgeOf_0 6 rfl rfl)
theorem dX1_edgeOf_7 : decode cX1_edgeOf 7 = .ok (.isub, 1) := dk_100 (dk_at dksX1_edgeOf_0 7 rfl rfl)
theorem dX1_edgeOf_8 : decode cX1_edgeOf 8 = .ok (.goto 6, 3) := dk_167 0 6 (dk_at dksX1_edgeOf_0 8 rfl rfl)
theorem dX1_edgeOf_11 : decode cX1_edgeOf 11 = .ok (.iload_n 0, 1) := dk_26 (dk_at dksX1_edgeOf_0 11 rfl rfl)
theorem dX1_edgeOf_12 : decode cX1_edgeOf 12 = .ok (.iconst 1, 1) := dk_4 (dk_at dksX1_edgeOf_0 12 rfl rfl)
theorem dX1_edgeOf_13 : decode cX1_edgeOf 13 = .ok (.isub, 1) := dk_100 (dk_at dksX1_edgeOf_0 13 rfl rfl)
theorem dX1_edgeOf_14 : decode cX1_edgeOf 14 = .ok (.ireturn, 1) := dk_172 (dk_at dksX1_edgeOf_0 14 rfl rfl)
abbrev cX1_edgeAt : ByteArray := prog_14_method_9_code
def yX1_edgeAt : MethodName := ⟨RX1, "edgeAt", "([III)I"⟩
def dkwX1_edgeAt_0 : List UInt8 := [42, 6, 6, 27, 104, 96, 28, 96, 46, 172]
abbrev dktX1_edgeAt_0 : List UInt8 := dkwX1_edgeAt_0 ++ []
theorem dksX1_edgeAt_0 : cX1_edgeAt.data.toList.drop 0 = dktX1_edgeAt_0 := by decide +kernel
theorem dX1_edgeAt_0 : decode cX1_edgeAt 0 = .ok (.aload_n 0, 1) := dk_42 (dk_at dksX1_edgeAt_0 0 rfl rfl)
theorem dX1_edgeAt_1 : decode cX1_edgeAt 1 = .ok (.iconst 3, 1) := dk_6 (dk_at dksX1_edgeAt_0 1 rfl rfl)
theorem dX1_edgeAt_2 : decode cX1_edgeAt 2 = .ok (.iconst 3, 1) := dk_6 (dk_at dksX1_edgeAt_0 2 rfl rfl)
theorem dX1_edgeAt_3 : decode cX1_edgeAt 3 = .ok (.iload_n 1, 1) := dk_27 (dk_at dksX1_edgeAt_0 3 rfl rfl)
theorem dX1_edgeAt_4 : decode cX1_edgeAt 4 = .ok (.imul, 1) := dk_104 (dk_at dksX1_edgeAt_0 4 rfl rfl)
theorem dX1_edgeAt_5 : decode cX1_edgeAt 5 = .ok (.iadd, 1) := dk_96 (dk_at dksX1_edgeAt_0 5 rfl rfl)
theorem dX1_edgeAt_6 : decode cX1_edgeAt 6 = .ok (.iload_n 2, 1) := dk_28 (dk_at dksX1_edgeAt_0 6 rfl rfl)
theorem dX1_edgeAt_7 : decode cX1_edgeAt 7 = .ok (.iadd, 1) := dk_96 (dk_at dksX1_edgeAt_0 7 rfl rfl)
theorem dX1_edgeAt_8 : decode cX1_edgeAt 8 = .ok (.iaload, 1) := dk_46 (dk_at dksX1_edgeAt_0 8 rfl rfl)
theorem dX1_edgeAt_9 : decode cX1_edgeAt 9 = .ok (.ireturn, 1) := dk_172 (dk_at dksX1_edgeAt_0 9 rfl rfl)
abbrev cX1_beginOf : ByteArray := prog_14_method_14_code
def yX1_beginOf : MethodName := ⟨RX1, "beginOf", "([II)I"⟩
def dkwX1_beginOf_0 : List UInt8 := [42, 27, 184, 0, 52, 27, 156, 0, 7, 4, 167, 0, 4, 3, 184, 0, 56, 172]
abbrev dktX1_beginOf_0 : List UInt8 := dkwX1_beginOf_0 ++ []
theorem dksX1_beginOf_0 : cX1_beginOf.data.toList.drop 0 = dktX1_beginOf_0 := by decide +kernel
theorem dX1_beginOf_0 : decode cX1_beginOf 0 = .ok (.aload_n 0, 1) := dk_42 (dk_at dksX1_beginOf_0 0 rfl rfl)
theorem dX1_beginOf_1 : decode cX1_beginOf 1 = .ok (.iload_n 1, 1) := dk_27 (dk_at dksX1_beginOf_0 1 rfl rfl)
theorem dX1_beginOf_2 : decode cX1_beginOf 2 = .ok (.invokestatic 52, 3) := dk_184 0 52 (dk_at dksX1_beginOf_0 2 rfl rfl)
theorem dX1_beginOf_5 : decode cX1_beginOf 5 = .ok (.iload_n 1, 1) := dk_27 (dk_at dksX1_beginOf_0 5 rfl rfl)
theorem dX1_beginOf_6 : decode cX1_beginOf 6 = .ok (.ifCond .ge 7, 3) := dk_156 0 7 (dk_at dksX1_beginOf_0 6 rfl rfl)
theorem dX1_beginOf_9 : decode cX1_beginOf 9 = .ok (.iconst 1, 1) := dk_4 (dk_at dksX1_beginOf_0 9 rfl rfl)
theorem dX1_beginOf_10 : decode cX1_beginOf 10 = .ok (.goto 4, 3) := dk_167 0 4 (dk_at dksX1_beginOf_0 10 rfl rfl)
theorem dX1_beginOf_13 : decode cX1_beginOf 13 = .ok (.iconst 0, 1) := dk_3 (dk_at dksX1_beginOf_0 13 rfl rfl)
theorem dX1_beginOf_14 : decode cX1_beginOf 14 = .ok (.invokestatic 56, 3) := dk_184 0 56 (dk_at dksX1_beginOf_0 14 rfl rfl)
theorem dX1_beginOf_17 : decode cX1_beginOf 17 = .ok (.ireturn, 1) := dk_172 (dk_at dksX1_beginOf_0 17 rfl rfl)
abbrev cX1_spells : ByteArray := prog_14_method_46_code
def yX1_spells : MethodName := ⟨RX1, "spells", "([III)V"⟩
def dkwX1_spells_1 : List UInt8 := [104, 96, 4, 96, 92, 46, 4, 96, 79, 177]
abbrev dktX1_spells_1 : List UInt8 := dkwX1_spells_1 ++ []
def dkwX1_spells_0 : List UInt8 := [42, 16, 21, 16, 6, 27, 104, 96, 5, 96, 42, 27, 184, 0, 60, 96, 28, 79, 42, 16, 21, 16, 6, 27]
abbrev dktX1_spells_0 : List UInt8 := dkwX1_spells_0 ++ dktX1_spells_1
theorem dksX1_spells_0 : cX1_spells.data.toList.drop 0 = dktX1_spells_0 := by decide +kernel
theorem dksX1_spells_1 : cX1_spells.data.toList.drop 24 = dktX1_spells_1 := dk_seg dksX1_spells_0 24 rfl rfl
theorem dX1_spells_0 : decode cX1_spells 0 = .ok (.aload_n 0, 1) := dk_42 (dk_at dksX1_spells_0 0 rfl rfl)
theorem dX1_spells_1 : decode cX1_spells 1 = .ok (.bipush 21, 2) := dk_16 21 (dk_at dksX1_spells_0 1 rfl rfl)
theorem dX1_spells_3 : decode cX1_spells 3 = .ok (.bipush 6, 2) := dk_16 6 (dk_at dksX1_spells_0 3 rfl rfl)
theorem dX1_spells_5 : decode cX1_spells 5 = .ok (.iload_n 1, 1) := dk_27 (dk_at dksX1_spells_0 5 rfl rfl)
theorem dX1_spells_6 : decode cX1_spells 6 = .ok (.imul, 1) := dk_104 (dk_at dksX1_spells_0 6 rfl rfl)
theorem dX1_spells_7 : decode cX1_spells 7 = .ok (.iadd, 1) := dk_96 (dk_at dksX1_spells_0 7 rfl rfl)
theorem dX1_spells_8 : decode cX1_spells 8 = .ok (.iconst 2, 1) := dk_5 (dk_at dksX1_spells_0 8 rfl rfl)
theorem dX1_spells_9 : decode cX1_spells 9 = .ok (.iadd, 1) := dk_96 (dk_at dksX1_spells_0 9 rfl rfl)
theorem dX1_spells_10 : decode cX1_spells 10 = .ok (.aload_n 0, 1) := dk_42 (dk_at dksX1_spells_0 10 rfl rfl)
theorem dX1_spells_11 : decode cX1_spells 11 = .ok (.iload_n 1, 1) := dk_27 (dk_at dksX1_spells_0 11 rfl rfl)
theorem dX1_spells_12 : decode cX1_spells 12 = .ok (.invokestatic 60, 3) := dk_184 0 60 (dk_at dksX1_spells_0 12 rfl rfl)
theorem dX1_spells_15 : decode cX1_spells 15 = .ok (.iadd, 1) := dk_96 (dk_at dksX1_spells_0 15 rfl rfl)
theorem dX1_spells_16 : decode cX1_spells 16 = .ok (.iload_n 2, 1) := dk_28 (dk_at dksX1_spells_0 16 rfl rfl)
theorem dX1_spells_17 : decode cX1_spells 17 = .ok (.iastore, 1) := dk_79 (dk_at dksX1_spells_0 17 rfl rfl)
theorem dX1_spells_18 : decode cX1_spells 18 = .ok (.aload_n 0, 1) := dk_42 (dk_at dksX1_spells_0 18 rfl rfl)
theorem dX1_spells_19 : decode cX1_spells 19 = .ok (.bipush 21, 2) := dk_16 21 (dk_at dksX1_spells_0 19 rfl rfl)
theorem dX1_spells_21 : decode cX1_spells 21 = .ok (.bipush 6, 2) := dk_16 6 (dk_at dksX1_spells_0 21 rfl rfl)
theorem dX1_spells_23 : decode cX1_spells 23 = .ok (.iload_n 1, 1) := dk_27 (dk_at dksX1_spells_0 23 rfl rfl)
theorem dX1_spells_24 : decode cX1_spells 24 = .ok (.imul, 1) := dk_104 (dk_at dksX1_spells_1 0 rfl rfl)
theorem dX1_spells_25 : decode cX1_spells 25 = .ok (.iadd, 1) := dk_96 (dk_at dksX1_spells_1 1 rfl rfl)
theorem dX1_spells_26 : decode cX1_spells 26 = .ok (.iconst 1, 1) := dk_4 (dk_at dksX1_spells_1 2 rfl rfl)
theorem dX1_spells_27 : decode cX1_spells 27 = .ok (.iadd, 1) := dk_96 (dk_at dksX1_spells_1 3 rfl rfl)
theorem dX1_spells_28 : decode cX1_spells 28 = .ok (.dup2, 1) := dk_92 (dk_at dksX1_spells_1 4 rfl rfl)
theorem dX1_spells_29 : decode cX1_spells 29 = .ok (.iaload, 1) := dk_46 (dk_at dksX1_spells_1 5 rfl rfl)
theorem dX1_spells_30 : decode cX1_spells 30 = .ok (.iconst 1, 1) := dk_4 (dk_at dksX1_spells_1 6 rfl rfl)
theorem dX1_spells_31 : decode cX1_spells 31 = .ok (.iadd, 1) := dk_96 (dk_at dksX1_spells_1 7 rfl rfl)
theorem dX1_spells_32 : decode cX1_spells 32 = .ok (.iastore, 1) := dk_79 (dk_at dksX1_spells_1 8 rfl rfl)
theorem dX1_spells_33 : decode cX1_spells 33 = .ok (.return_, 1) := dk_177 (dk_at dksX1_spells_1 9 rfl rfl)
abbrev cX1_isClosed : ByteArray := prog_14_method_45_code
def yX1_isClosed : MethodName := ⟨RX1, "isClosed", "([II)Z"⟩
def dkwX1_isClosed_1 : List UInt8 := [27, 3, 184, 0, 64, 184, 0, 188, 160, 0, 7, 4, 167, 0, 4, 3, 172]
abbrev dktX1_isClosed_1 : List UInt8 := dkwX1_isClosed_1 ++ []
def dkwX1_isClosed_0 : List UInt8 := [42, 27, 184, 0, 60, 61, 28, 158, 0, 32, 42, 42, 27, 28, 4, 100, 184, 0, 64, 184, 0, 185, 42, 42]
abbrev dktX1_isClosed_0 : List UInt8 := dkwX1_isClosed_0 ++ dktX1_isClosed_1
theorem dksX1_isClosed_0 : cX1_isClosed.data.toList.drop 0 = dktX1_isClosed_0 := by decide +kernel
theorem dksX1_isClosed_1 : cX1_isClosed.data.toList.drop 24 = dktX1_isClosed_1 := dk_seg dksX1_isClosed_0 24 rfl rfl
theorem dX1_isClosed_0 : decode cX1_isClosed 0 = .ok (.aload_n 0, 1) := dk_42 (dk_at dksX1_isClosed_0 0 rfl rfl)
theorem dX1_isClosed_1 : decode cX1_isClosed 1 = .ok (.iload_n 1, 1) := dk_27 (dk_at dksX1_isClosed_0 1 rfl rfl)
theorem dX1_isClosed_2 : decode cX1_isClosed 2 = .ok (.invokestatic 60, 3) := dk_184 0 60 (dk_at dksX1_isClosed_0 2 rfl rfl)
theorem dX1_isClosed_5 : decode cX1_isClosed 5 = .ok (.istore_n 2, 1) := dk_61 (dk_at dksX1_isClosed_0 5 rfl rfl)
theorem dX1_isClosed_6 : decode cX1_isClosed 6 = .ok (.iload_n 2, 1) := dk_28 (dk_at dksX1_isClosed_0 6 rfl rfl)
theorem dX1_isClosed_7 : decode cX1_isClosed 7 = .ok (.ifCond .le 32, 3) := dk_158 0 32 (dk_at dksX1_isClosed_0 7 rfl rfl)
theorem dX1_isClosed_10 : decode cX1_isClosed 10 = .ok (.aload_n 0, 1) := dk_42 (dk_at dksX1_isClosed_0 10 rfl rfl)
theorem dX1_isClosed_11 : decode cX1_isClosed 11 = .ok (.aload_n 0, 1) := dk_42 (dk_at dksX1_isClosed_0 11 rfl rfl)
theorem dX1_isClosed_12 : decode cX1_isClosed 12 = .ok (.iload_n 1, 1) := dk_27 (dk_at dksX1_isClosed_0 12 rfl rfl)
theorem dX1_isClosed_13 : decode cX1_isClosed 13 = .ok (.iload_n 2, 1) := dk_28 (dk_at dksX1_isClosed_0 13 rfl rfl)
theorem dX1_isClosed_14 : decode cX1_isClosed 14 = .ok (.iconst 1, 1) := dk_4 (dk_at dksX1_isClosed_0 14 rfl rfl)
theorem dX1_isClosed_15 : decode cX1_isClosed 15 = .ok (.isub, 1) := dk_100 (dk_at dksX1_isClosed_0 15 rfl rfl)
theorem dX1_isClosed_16 : decode cX1_isClosed 16 = .ok (.invokestatic 64, 3) := dk_184 0 64 (dk_at dksX1_isClosed_0 16 rfl rfl)
theorem dX1_isClosed_19 : decode cX1_isClosed 19 = .ok (.invokestatic 185, 3) := dk_184 0 185 (dk_at dksX1_isClosed_0 19 rfl rfl)
theorem dX1_isClosed_22 : decode cX1_isClosed 22 = .ok (.aload_n 0, 1) := dk_42 (dk_at dksX1_isClosed_0 22 rfl rfl)
theorem dX1_isClosed_23 : decode cX1_isClosed 23 = .ok (.aload_n 0, 1) := dk_42 (dk_at dksX1_isClosed_0 23 rfl rfl)
theorem dX1_isClosed_24 : decode cX1_isClosed 24 = .ok (.iload_n 1, 1) := dk_27 (dk_at dksX1_isClosed_1 0 rfl rfl)
theorem dX1_isClosed_25 : decode cX1_isClosed 25 = .ok (.iconst 0, 1) := dk_3 (dk_at dksX1_isClosed_1 1 rfl rfl)
theorem dX1_isClosed_26 : decode cX1_isClosed 26 = .ok (.invokestatic 64, 3) := dk_184 0 64 (dk_at dksX1_isClosed_1 2 rfl rfl)
theorem dX1_isClosed_29 : decode cX1_isClosed 29 = .ok (.invokestatic 188, 3) := dk_184 0 188 (dk_at dksX1_isClosed_1 5 rfl rfl)
theorem dX1_isClosed_32 : decode cX1_isClosed 32 = .ok (.if_icmp .ne 7, 3) := dk_160 0 7 (dk_at dksX1_isClosed_1 8 rfl rfl)
theorem dX1_isClosed_35 : decode cX1_isClosed 35 = .ok (.iconst 1, 1) := dk_4 (dk_at dksX1_isClosed_1 11 rfl rfl)
theorem dX1_isClosed_36 : decode cX1_isClosed 36 = .ok (.goto 4, 3) := dk_167 0 4 (dk_at dksX1_isClosed_1 12 rfl rfl)
theorem dX1_isClosed_39 : decode cX1_isClosed 39 = .ok (.iconst 0, 1) := dk_3 (dk_at dksX1_isClosed_1 15 rfl rfl)
theorem dX1_isClosed_40 : decode cX1_isClosed 40 = .ok (.ireturn, 1) := dk_172 (dk_at dksX1_isClosed_1 16 rfl rfl)
abbrev cX1_copies : ByteArray := prog_14_method_7_code
def yX1_copies : MethodName := ⟨RX1, "copies", "([II[II)V"⟩
def dkwX1_copies_1 : List UInt8 := [132, 4, 1, 167, 255, 234, 177]
abbrev dktX1_copies_1 : List UInt8 := dkwX1_copies_1 ++ []
def dkwX1_copies_0 : List UInt8 := [3, 54, 4, 21, 4, 16, 63, 162, 0, 21, 44, 29, 21, 4, 96, 42, 27, 21, 4, 96, 46, 79]
abbrev dktX1_copies_0 : List UInt8 := dkwX1_copies_0 ++ dktX1_copies_1
theorem dksX1_copies_0 : cX1_copies.data.toList.drop 0 = dktX1_copies_0 := by decide +kernel
theorem dksX1_copies_1 : cX1_copies.data.toList.drop 22 = dktX1_copies_1 := dk_seg dksX1_copies_0 22 rfl rfl
theorem dX1_copies_0 : decode cX1_copies 0 = .ok (.iconst 0, 1) := dk_3 (dk_at dksX1_copies_0 0 rfl rfl)
theorem dX1_copies_1 : decode cX1_copies 1 = .ok (.istore 4, 2) := dk_54 4 (dk_at dksX1_copies_0 1 rfl rfl)
theorem dX1_copies_3 : decode cX1_copies 3 = .ok (.iload 4, 2) := dk_21 4 (dk_at dksX1_copies_0 3 rfl rfl)
theorem dX1_copies_5 : decode cX1_copies 5 = .ok (.bipush 63, 2) := dk_16 63 (dk_at dksX1_copies_0 5 rfl rfl)
theorem dX1_copies_7 : decode cX1_copies 7 = .ok (.if_icmp .ge 21, 3) := dk_162 0 21 (dk_at dksX1_copies_0 7 rfl rfl)
theorem dX1_copies_10 : decode cX1_copies 10 = .ok (.aload_n 2, 1) := dk_44 (dk_at dksX1_copies_0 10 rfl rfl)
theorem dX1_copies_11 : decode cX1_copies 11 = .ok (.iload_n 3, 1) := dk_29 (dk_at dksX1_copies_0 11 rfl rfl)
theorem dX1_copies_12 : decode cX1_copies 12 = .ok (.iload 4, 2) := dk_21 4 (dk_at dksX1_copies_0 12 rfl rfl)
theorem dX1_copies_14 : decode cX1_copies 14 = .ok (.iadd, 1) := dk_96 (dk_at dksX1_copies_0 14 rfl rfl)
theorem dX1_copies_15 : decode cX1_copies 15 = .ok (.aload_n 0, 1) := dk_42 (dk_at dksX1_copies_0 15 rfl rfl)
theorem dX1_copies_16 : decode cX1_copies 16 = .ok (.iload_n 1, 1) := dk_27 (dk_at dksX1_copies_0 16 rfl rfl)
theorem dX1_copies_17 : decode cX1_copies 17 = .ok (.iload 4, 2) := dk_21 4 (dk_at dksX1_copies_0 17 rfl rfl)
theorem dX1_copies_19 : decode cX1_copies 19 = .ok (.iadd, 1) := dk_96 (dk_at dksX1_copies_0 19 rfl rfl)
theorem dX1_copies_20 : decode cX1_copies 20 = .ok (.iaload, 1) := dk_46 (dk_at dksX1_copies_0 20 rfl rfl)
theorem dX1_copies_21 : decode cX1_copies 21 = .ok (.iastore, 1) := dk_79 (dk_at dksX1_copies_0 21 rfl rfl)
theorem dX1_copies_22 : decode cX1_copies 22 = .ok (.iinc 4 1, 3) := dk_132 4 1 (dk_at dksX1_copies_1 0 rfl rfl)
theorem dX1_copies_25 : decode cX1_copies 25 = .ok (.goto (-22), 3) := dk_167 255 234 (dk_at dksX1_copies_1 3 rfl rfl)
theorem dX1_copies_28 : decode cX1_copies 28 = .ok (.return_, 1) := dk_177 (dk_at dksX1_copies_1 6 rfl rfl)
abbrev cX1_fault : ByteArray := prog_14_method_52_code
def yX1_fault : MethodName := ⟨RX1, "fault", "()I"⟩
theorem dX1_fault_0 : decode cX1_fault 0 = .ok (.aload_n 0, 1) := by decide +kernel
theorem dX1_fault_1 : decode cX1_fault 1 = .ok (.getfield 230, 3) := by decide +kernel
theorem dX1_fault_4 : decode cX1_fault 4 = .ok (.ireturn, 1) := by decide +kernel
abbrev cX1_undo : ByteArray := prog_14_method_54_code
def yX1_undo : MethodName := ⟨RX1, "undo", "()I"⟩
def dkwX1_undo_1 : List UInt8 := [16, 63, 42, 180, 0, 238, 104, 42, 180, 0, 7, 3, 184, 0, 234, 42, 180, 0, 238, 172]
abbrev dktX1_undo_1 : List UInt8 := dkwX1_undo_1 ++ []
def dkwX1_undo_0 : List UInt8 := [42, 180, 0, 238, 154, 0, 6, 18, 241, 172, 42, 89, 180, 0, 238, 4, 100, 181, 0, 238, 42, 180, 0, 16]
abbrev dktX1_undo_0 : List UInt8 := dkwX1_undo_0 ++ dktX1_undo_1
theorem dksX1_undo_0 : cX1_undo.data.toList.drop 0 = dktX1_undo_0 := by decide +kernel
theorem dksX1_undo_1 : cX1_undo.data.toList.drop 24 = dktX1_undo_1 := dk_seg dksX1_undo_0 24 rfl rfl
theorem dX1_undo_0 : decode cX1_undo 0 = .ok (.aload_n 0, 1) := dk_42 (dk_at dksX1_undo_0 0 rfl rfl)
theorem dX1_undo_1 : decode cX1_undo 1 = .ok (.getfield 238, 3) := dk_180 0 238 (dk_at dksX1_undo_0 1 rfl rfl)
theorem dX1_undo_4 : decode cX1_undo 4 = .ok (.ifCond .ne 6, 3) := dk_154 0 6 (dk_at dksX1_undo_0 4 rfl rfl)
theorem dX1_undo_7 : decode cX1_undo 7 = .ok (.ldc 241, 2) := dk_18 241 (dk_at dksX1_undo_0 7 rfl rfl)
theorem dX1_undo_9 : decode cX1_undo 9 = .ok (.ireturn, 1) := dk_172 (dk_at dksX1_undo_0 9 rfl rfl)
theorem dX1_undo_10 : decode cX1_undo 10 = .ok (.aload_n 0, 1) := dk_42 (dk_at dksX1_undo_0 10 rfl rfl)
theorem dX1_undo_11 : decode cX1_undo 11 = .ok (.dup, 1) := dk_89 (dk_at dksX1_undo_0 11 rfl rfl)
theorem dX1_undo_12 : decode cX1_undo 12 = .ok (.getfield 238, 3) := dk_180 0 238 (dk_at dksX1_undo_0 12 rfl rfl)
theorem dX1_undo_15 : decode cX1_undo 15 = .ok (.iconst 1, 1) := dk_4 (dk_at dksX1_undo_0 15 rfl rfl)
theorem dX1_undo_16 : decode cX1_undo 16 = .ok (.isub, 1) := dk_100 (dk_at dksX1_undo_0 16 rfl rfl)
theorem dX1_undo_17 : decode cX1_undo 17 = .ok (.putfield 238, 3) := dk_181 0 238 (dk_at dksX1_undo_0 17 rfl rfl)
theorem dX1_undo_20 : decode cX1_undo 20 = .ok (.aload_n 0, 1) := dk_42 (dk_at dksX1_undo_0 20 rfl rfl)
theorem dX1_undo_21 : decode cX1_undo 21 = .ok (.getfield 16, 3) := dk_180 0 16 (dk_at dksX1_undo_0 21 rfl rfl)
theorem dX1_undo_24 : decode cX1_undo 24 = .ok (.bipush 63, 2) := dk_16 63 (dk_at dksX1_undo_1 0 rfl rfl)
theorem dX1_undo_26 : decode cX1_undo 26 = .ok (.aload_n 0, 1) := dk_42 (dk_at dksX1_undo_1 2 rfl rfl)
theorem dX1_undo_27 : decode cX1_undo 27 = .ok (.getfield 238, 3) := dk_180 0 238 (dk_at dksX1_undo_1 3 rfl rfl)
theorem dX1_undo_30 : decode cX1_undo 30 = .ok (.imul, 1) := dk_104 (dk_at dksX1_undo_1 6 rfl rfl)
theorem dX1_undo_31 : decode cX1_undo 31 = .ok (.aload_n 0, 1) := dk_42 (dk_at dksX1_undo_1 7 rfl rfl)
theorem dX1_undo_32 : decode cX1_undo 32 = .ok (.getfield 7, 3) := dk_180 0 7 (dk_at dksX1_undo_1 8 rfl rfl)
theorem dX1_undo_35 : decode cX1_undo 35 = .ok (.iconst 0, 1) := dk_3 (dk_at dksX1_undo_1 11 rfl rfl)
theorem dX1_undo_36 : decode cX1_undo 36 = .ok (.invokestatic 234, 3) := dk_184 0 234 (dk_at dksX1_undo_1 12 rfl rfl)
theorem dX1_undo_39 : decode cX1_undo 39 = .ok (.aload_n 0, 1) := dk_42 (dk_at dksX1_undo_1 15 rfl rfl)
theorem dX1_undo_40 : decode cX1_undo 40 = .ok (.getfield 238, 3) := dk_180 0 238 (dk_at dksX1_undo_1 16 rfl rfl)
theorem dX1_undo_43 : decode cX1_undo 43 = .ok (.ireturn, 1) := dk_172 (dk_at dksX1_undo_1 19 rfl rfl)
abbrev cX1_weigh : ByteArray := prog_14_method_57_code
def yX1_weigh : MethodName := ⟨RX1, "weigh", "(III)I"⟩
def dkwX1_weigh_3 : List UInt8 := [96, 29, 79, 21, 4, 172]
abbrev dktX1_weigh_3 : List UInt8 := dkwX1_weigh_3 ++ []
def dkwX1_weigh_2 : List UInt8 := [180, 0, 7, 27, 4, 160, 0, 13, 6, 6, 28, 104, 96, 5, 96, 167, 0, 10, 16, 21, 16, 6, 28, 104]
abbrev dktX1_weigh_2 : List UInt8 := dkwX1_weigh_2 ++ dktX1_weigh_3
def dkwX1_weigh_1 : List UInt8 := [154, 0, 6, 18, 218, 172, 42, 182, 0, 252, 42, 180, 0, 7, 27, 28, 184, 0, 81, 54, 4, 42]
abbrev dktX1_weigh_1 : List UInt8 := dkwX1_weigh_1 ++ dktX1_weigh_2
def dkwX1_weigh_0 : List UInt8 := [27, 153, 0, 24, 42, 27, 28, 182, 0, 247, 153, 0, 15, 29, 133, 10, 20, 0, 250, 184, 0, 150]
abbrev dktX1_weigh_0 : List UInt8 := dkwX1_weigh_0 ++ dktX1_weigh_1
theorem dksX1_weigh_0 : cX1_weigh.data.toList.drop 0 = dktX1_weigh_0 := by decide +kernel
theorem dksX1_weigh_1 : cX1_weigh.data.toList.drop 22 = dktX1_weigh_1 := dk_seg dksX1_weigh_0 22 rfl rfl
theorem dksX1_weigh_2 : cX1_weigh.data.toList.drop 44 = dktX1_weigh_2 := dk_seg dksX1_weigh_1 22 rfl rfl
theorem dksX1_weigh_3 : cX1_weigh.data.toList.drop 68 = dktX1_weigh_3 := dk_seg dksX1_weigh_2 24 rfl rfl
theorem dX1_weigh_0 : decode cX1_weigh 0 = .ok (.iload_n 1, 1) := dk_27 (dk_at dksX1_weigh_0 0 rfl rfl)
theorem dX1_weigh_1 : decode cX1_weigh 1 = .ok (.ifCond .eq 24, 3) := dk_153 0 24 (dk_at dksX1_weigh_0 1 rfl rfl)
theorem dX1_weigh_4 : decode cX1_weigh 4 = .ok (.aload_n 0, 1) := dk_42 (dk_at dksX1_weigh_0 4 rfl rfl)
theorem dX1_weigh_5 : decode cX1_weigh 5 = .ok (.iload_n 1, 1) := dk_27 (dk_at dksX1_weigh_0 5 rfl rfl)
theorem dX1_weigh_6 : decode cX1_weigh 6 = .ok (.iload_n 2, 1) := dk_28 (dk_at dksX1_weigh_0 6 rfl rfl)
theorem dX1_weigh_7 : decode cX1_weigh 7 = .ok (.invokevirtual 247, 3) := dk_182 0 247 (dk_at dksX1_weigh_0 7 rfl rfl)
theorem dX1_weigh_10 : decode cX1_weigh 10 = .ok (.ifCond .eq 15, 3) := dk_153 0 15 (dk_at dksX1_weigh_0 10 rfl rfl)
theorem dX1_weigh_13 : decode cX1_weigh 13 = .ok (.iload_n 3, 1) := dk_29 (dk_at dksX1_weigh_0 13 rfl rfl)
theorem dX1_weigh_14 : decode cX1_weigh 14 = .ok (.i2l, 1) := dk_133 (dk_at dksX1_weigh_0 14 rfl rfl)
theorem dX1_weigh_15 : decode cX1_weigh 15 = .ok (.lconst 1, 1) := dk_10 (dk_at dksX1_weigh_0 15 rfl rfl)
theorem dX1_weigh_16 : decode cX1_weigh 16 = .ok (.ldc2_w 250, 3) := dk_20 0 250 (dk_at dksX1_weigh_0 16 rfl rfl)
theorem dX1_weigh_19 : decode cX1_weigh 19 = .ok (.invokestatic 150, 3) := dk_184 0 150 (dk_at dksX1_weigh_0 19 rfl rfl)
theorem dX1_weigh_22 : decode cX1_weigh 22 = .ok (.ifCond .ne 6, 3) := dk_154 0 6 (dk_at dksX1_weigh_1 0 rfl rfl)
theorem dX1_weigh_25 : decode cX1_weigh 25 = .ok (.ldc 218, 2) := dk_18 218 (dk_at dksX1_weigh_1 3 rfl rfl)
theorem dX1_weigh_27 : decode cX1_weigh 27 = .ok (.ireturn, 1) := dk_172 (dk_at dksX1_weigh_1 5 rfl rfl)
theorem dX1_weigh_28 : decode cX1_weigh 28 = .ok (.aload_n 0, 1) := dk_42 (dk_at dksX1_weigh_1 6 rfl rfl)
theorem dX1_weigh_29 : decode cX1_weigh 29 = .ok (.invokevirtual 252, 3) := dk_182 0 252 (dk_at dksX1_weigh_1 7 rfl rfl)
theorem dX1_weigh_32 : decode cX1_weigh 32 = .ok (.aload_n 0, 1) := dk_42 (dk_at dksX1_weigh_1 10 rfl rfl)
theorem dX1_weigh_33 : decode cX1_weigh 33 = .ok (.getfield 7, 3) := dk_180 0 7 (dk_at dksX1_weigh_1 11 rfl rfl)
theorem dX1_weigh_36 : decode cX1_weigh 36 = .ok (.iload_n 1, 1) := dk_27 (dk_at dksX1_weigh_1 14 rfl rfl)
theorem dX1_weigh_37 : decode cX1_weigh 37 = .ok (.iload_n 2, 1) := dk_28 (dk_at dksX1_weigh_1 15 rfl rfl)
theorem dX1_weigh_38 : decode cX1_weigh 38 = .ok (.invokestatic 81, 3) := dk_184 0 81 (dk_at dksX1_weigh_1 16 rfl rfl)
theorem dX1_weigh_41 : decode cX1_weigh 41 = .ok (.istore 4, 2) := dk_54 4 (dk_at dksX1_weigh_1 19 rfl rfl)
theorem dX1_weigh_43 : decode cX1_weigh 43 = .ok (.aload_n 0, 1) := dk_42 (dk_at dksX1_weigh_1 21 rfl rfl)
theorem dX1_weigh_44 : decode cX1_weigh 44 = .ok (.getfield 7, 3) := dk_180 0 7 (dk_at dksX1_weigh_2 0 rfl rfl)
theorem dX1_weigh_47 : decode cX1_weigh 47 = .ok (.iload_n 1, 1) := dk_27 (dk_at dksX1_weigh_2 3 rfl rfl)
theorem dX1_weigh_48 : decode cX1_weigh 48 = .ok (.iconst 1, 1) := dk_4 (dk_at dksX1_weigh_2 4 rfl rfl)
theorem dX1_weigh_49 : decode cX1_weigh 49 = .ok (.if_icmp .ne 13, 3) := dk_160 0 13 (dk_at dksX1_weigh_2 5 rfl rfl)
theorem dX1_weigh_52 : decode cX1_weigh 52 = .ok (.iconst 3, 1) := dk_6 (dk_at dksX1_weigh_2 8 rfl rfl)
theorem dX1_weigh_53 : decode cX1_weigh 53 = .ok (.iconst 3, 1) := dk_6 (dk_at dksX1_weigh_2 9 rfl rfl)
theorem dX1_weigh_54 : decode cX1_weigh 54 = .ok (.iload_n 2, 1) := dk_28 (dk_at dksX1_weigh_2 10 rfl rfl)
theorem dX1_weigh_55 : decode cX1_weigh 55 = .ok (.imul, 1) := dk_104 (dk_at dksX1_weigh_2 11 rfl rfl)
theorem dX1_weigh_56 : decode cX1_weigh 56 = .ok (.iadd, 1) := dk_96 (dk_at dksX1_weigh_2 12 rfl rfl)
theorem dX1_weigh_57 : decode cX1_weigh 57 = .ok (.iconst 2, 1) := dk_5 (dk_at dksX1_weigh_2 13 rfl rfl)
theorem dX1_weigh_58 : decode cX1_weigh 58 = .ok (.iadd, 1) := dk_96 (dk_at dksX1_weigh_2 14 rfl rfl)
theorem dX1_weigh_59 : decode cX1_weigh 59 = .ok (.goto 10, 3) := dk_167 0 10 (dk_at dksX1_weigh_2 15 rfl rfl)
theorem dX1_weigh_62 : decode cX1_weigh 62 = .ok (.bipush 21, 2) := dk_16 21 (dk_at dksX1_weigh_2 18 rfl rfl)
theorem dX1_weigh_64 : decode cX1_weigh 64 = .ok (.bipush 6, 2) := dk_16 6 (dk_at dksX1_weigh_2 20 rfl rfl)
theorem dX1_weigh_66 : decode cX1_weigh 66 = .ok (.iload_n 2, 1) := dk_28 (dk_at dksX1_weigh_2 22 rfl rfl)
theorem dX1_weigh_67 : decode cX1_weigh 67 = .ok (.imul, 1) := dk_104 (dk_at dksX1_weigh_2 23 rfl rfl)
theorem dX1_weigh_68 : decode cX1_weigh 68 = .ok (.iadd, 1) := dk_96 (dk_at dksX1_weigh_3 0 rfl rfl)
theorem dX1_weigh_69 : decode cX1_weigh 69 = .ok (.iload_n 3, 1) := dk_29 (dk_at dksX1_weigh_3 1 rfl rfl)
theorem dX1_weigh_70 : decode cX1_weigh 70 = .ok (.iastore, 1) := dk_79 (dk_at dksX1_weigh_3 2 rfl rfl)
theorem dX1_weigh_71 : decode cX1_weigh 71 = .ok (.iload 4, 2) := dk_21 4 (dk_at dksX1_weigh_3 3 rfl rfl)
theorem dX1_weigh_73 : decode cX1_weigh 73 = .ok (.ireturn, 1) := dk_172 (dk_at dksX1_weigh_3 5 rfl rfl)
abbrev cX1_isCell : ByteArray := prog_14_method_55_code
def yX1_isCell : MethodName := ⟨RX1, "isCell", "(II)Z"⟩
def dkwX1_isCell_1 : List UInt8 := [184, 0, 150, 153, 0, 7, 4, 167, 0, 4, 3, 172]
abbrev dktX1_isCell_1 : List UInt8 := dkwX1_isCell_1 ++ []
def dkwX1_isCell_0 : List UInt8 := [27, 133, 9, 20, 0, 242, 184, 0, 150, 153, 0, 25, 28, 133, 9, 42, 180, 0, 7, 27, 46, 4, 100, 133]
abbrev dktX1_isCell_0 : List UInt8 := dkwX1_isCell_0 ++ dktX1_isCell_1
theorem dksX1_isCell_0 : cX1_isCell.data.toList.drop 0 = dktX1_isCell_0 := by decide +kernel
theorem dksX1_isCell_1 : cX1_isCell.data.toList.drop 24 = dktX1_isCell_1 := dk_seg dksX1_isCell_0 24 rfl rfl
theorem dX1_isCell_0 : decode cX1_isCell 0 = .ok (.iload_n 1, 1) := dk_27 (dk_at dksX1_isCell_0 0 rfl rfl)
theorem dX1_isCell_1 : decode cX1_isCell 1 = .ok (.i2l, 1) := dk_133 (dk_at dksX1_isCell_0 1 rfl rfl)
theorem dX1_isCell_2 : decode cX1_isCell 2 = .ok (.lconst 0, 1) := dk_9 (dk_at dksX1_isCell_0 2 rfl rfl)
theorem dX1_isCell_3 : decode cX1_isCell 3 = .ok (.ldc2_w 242, 3) := dk_20 0 242 (dk_at dksX1_isCell_0 3 rfl rfl)
theorem dX1_isCell_6 : decode cX1_isCell 6 = .ok (.invokestatic 150, 3) := dk_184 0 150 (dk_at dksX1_isCell_0 6 rfl rfl)
theorem dX1_isCell_9 : decode cX1_isCell 9 = .ok (.ifCond .eq 25, 3) := dk_153 0 25 (dk_at dksX1_isCell_0 9 rfl rfl)
theorem dX1_isCell_12 : decode cX1_isCell 12 = .ok (.iload_n 2, 1) := dk_28 (dk_at dksX1_isCell_0 12 rfl rfl)
theorem dX1_isCell_13 : decode cX1_isCell 13 = .ok (.i2l, 1) := dk_133 (dk_at dksX1_isCell_0 13 rfl rfl)
theorem dX1_isCell_14 : decode cX1_isCell 14 = .ok (.lconst 0, 1) := dk_9 (dk_at dksX1_isCell_0 14 rfl rfl)
theorem dX1_isCell_15 : decode cX1_isCell 15 = .ok (.aload_n 0, 1) := dk_42 (dk_at dksX1_isCell_0 15 rfl rfl)
theorem dX1_isCell_16 : decode cX1_isCell 16 = .ok (.getfield 7, 3) := dk_180 0 7 (dk_at dksX1_isCell_0 16 rfl rfl)
theorem dX1_isCell_19 : decode cX1_isCell 19 = .ok (.iload_n 1, 1) := dk_27 (dk_at dksX1_isCell_0 19 rfl rfl)
theorem dX1_isCell_20 : decode cX1_isCell 20 = .ok (.iaload, 1) := dk_46 (dk_at dksX1_isCell_0 20 rfl rfl)
theorem dX1_isCell_21 : decode cX1_isCell 21 = .ok (.iconst 1, 1) := dk_4 (dk_at dksX1_isCell_0 21 rfl rfl)
theorem dX1_isCell_22 : decode cX1_isCell 22 = .ok (.isub, 1) := dk_100 (dk_at dksX1_isCell_0 22 rfl rfl)
theorem dX1_isCell_23 : decode cX1_isCell 23 = .ok (.i2l, 1) := dk_133 (dk_at dksX1_isCell_0 23 rfl rfl)
theorem dX1_isCell_24 : decode cX1_isCell 24 = .ok (.invokestatic 150, 3) := dk_184 0 150 (dk_at dksX1_isCell_1 0 rfl rfl)
theorem dX1_isCell_27 : decode cX1_isCell 27 = .ok (.ifCond .eq 7, 3) := dk_153 0 7 (dk_at dksX1_isCell_1 3 rfl rfl)
theorem dX1_isCell_30 : decode cX1_isCell 30 = .ok (.iconst 1, 1) := dk_4 (dk_at dksX1_isCell_1 6 rfl rfl)
theorem dX1_isCell_31 : decode cX1_isCell 31 = .ok (.goto 4, 3) := dk_167 0 4 (dk_at dksX1_isCell_1 7 rfl rfl)
theorem dX1_isCell_34 : decode cX1_isCell 34 = .ok (.iconst 0, 1) := dk_3 (dk_at dksX1_isCell_1 10 rfl rfl)
theorem dX1_isCell_35 : decode cX1_isCell 35 = .ok (.ireturn, 1) := dk_172 (dk_at dksX1_isCell_1 11 rfl rfl)
abbrev cX1_notes : ByteArray := prog_14_method_53_code
def yX1_notes : MethodName := ⟨RX1, "notes", "()V"⟩
def dkwX1_notes_3 : List UInt8 := [180, 0, 238, 4, 96, 181, 0, 238, 177]
abbrev dktX1_notes_3 : List UInt8 := dkwX1_notes_3 ++ []
def dkwX1_notes_2 : List UInt8 := [181, 0, 238, 42, 180, 0, 7, 3, 42, 180, 0, 16, 16, 63, 42, 180, 0, 238, 104, 184, 0, 234, 42, 89]
abbrev dktX1_notes_2 : List UInt8 := dkwX1_notes_2 ++ dktX1_notes_3
def dkwX1_notes_1 : List UInt8 := [180, 0, 16, 27, 16, 63, 96, 46, 79, 132, 1, 1, 167, 255, 231, 42, 89, 180, 0, 238, 4, 100]
abbrev dktX1_notes_1 : List UInt8 := dkwX1_notes_1 ++ dktX1_notes_2
def dkwX1_notes_0 : List UInt8 := [42, 180, 0, 238, 16, 8, 160, 0, 43, 3, 60, 27, 17, 1, 185, 162, 0, 24, 42, 180, 0, 16, 27, 42]
abbrev dktX1_notes_0 : List UInt8 := dkwX1_notes_0 ++ dktX1_notes_1
theorem dksX1_notes_0 : cX1_notes.data.toList.drop 0 = dktX1_notes_0 := by decide +kernel
theorem dksX1_notes_1 : cX1_notes.data.toList.drop 24 = dktX1_notes_1 := dk_seg dksX1_notes_0 24 rfl rfl
theorem dksX1_notes_2 : cX1_notes.data.toList.drop 46 = dktX1_notes_2 := dk_seg dksX1_notes_1 22 rfl rfl
theorem dksX1_notes_3 : cX1_notes.data.toList.drop 70 = dktX1_notes_3 := dk_seg dksX1_notes_2 24 rfl rfl
theorem dX1_notes_0 : decode cX1_notes 0 = .ok (.aload_n 0, 1) := dk_42 (dk_at dksX1_notes_0 0 rfl rfl)
theorem dX1_notes_1 : decode cX1_notes 1 = .ok (.getfield 238, 3) := dk_180 0 238 (dk_at dksX1_notes_0 1 rfl rfl)
theorem dX1_notes_4 : decode cX1_notes 4 = .ok (.bipush 8, 2) := dk_16 8 (dk_at dksX1_notes_0 4 rfl rfl)
theorem dX1_notes_6 : decode cX1_notes 6 = .ok (.if_icmp .ne 43, 3) := dk_160 0 43 (dk_at dksX1_notes_0 6 rfl rfl)
theorem dX1_notes_9 : decode cX1_notes 9 = .ok (.iconst 0, 1) := dk_3 (dk_at dksX1_notes_0 9 rfl rfl)
theorem dX1_notes_10 : decode cX1_notes 10 = .ok (.istore_n 1, 1) := dk_60 (dk_at dksX1_notes_0 10 rfl rfl)
theorem dX1_notes_11 : decode cX1_notes 11 = .ok (.iload_n 1, 1) := dk_27 (dk_at dksX1_notes_0 11 rfl rfl)
theorem dX1_notes_12 : decode cX1_notes 12 = .ok (.sipush 441, 3) := dk_17 1 185 (dk_at dksX1_notes_0 12 rfl rfl)
theorem dX1_notes_15 : decode cX1_notes 15 = .ok (.if_icmp .ge 24, 3) := dk_162 0 24 (dk_at dksX1_notes_0 15 rfl rfl)
theorem dX1_notes_18 : decode cX1_notes 18 = .ok (.aload_n 0, 1) := dk_42 (dk_at dksX1_notes_0 18 rfl rfl)
theorem dX1_notes_19 : decode cX1_notes 19 = .ok (.getfield 16, 3) := dk_180 0 16 (dk_at dksX1_notes_0 19 rfl rfl)
theorem dX1_notes_22 : decode cX1_notes 22 = .ok (.iload_n 1, 1) := dk_27 (dk_at dksX1_notes_0 22 rfl rfl)
theorem dX1_notes_23 : decode cX1_notes 23 = .ok (.aload_n 0, 1) := dk_42 (dk_at dksX1_notes_0 23 rfl rfl)
theorem dX1_notes_24 : decode cX1_notes 24 = .ok (.getfield 16, 3) := dk_180 0 16 (dk_at dksX1_notes_1 0 rfl rfl)
theorem dX1_notes_27 : decode cX1_notes 27 = .ok (.iload_n 1, 1) := dk_27 (dk_at dksX1_notes_1 3 rfl rfl)
theorem dX1_notes_28 : decode cX1_notes 28 = .ok (.bipush 63, 2) := dk_16 63 (dk_at dksX1_notes_1 4 rfl rfl)
theorem dX1_notes_30 : decode cX1_notes 30 = .ok (.iadd, 1) := dk_96 (dk_at dksX1_notes_1 6 rfl rfl)
theorem dX1_notes_31 : decode cX1_notes 31 = .ok (.iaload, 1) := dk_46 (dk_at dksX1_notes_1 7 rfl rfl)
theorem dX1_notes_32 : decode cX1_notes 32 = .ok (.iastore, 1) := dk_79 (dk_at dksX1_notes_1 8 rfl rfl)
theorem dX1_notes_33 : decode cX1_notes 33 = .ok (.iinc 1 1, 3) := dk_132 1 1 (dk_at dksX1_notes_1 9 rfl rfl)
theorem dX1_notes_36 : decode cX1_notes 36 = .ok (.goto (-25), 3) := dk_167 255 231 (dk_at dksX1_notes_1 12 rfl rfl)
theorem dX1_notes_39 : decode cX1_notes 39 = .ok (.aload_n 0, 1) := dk_42 (dk_at dksX1_notes_1 15 rfl rfl)
theorem dX1_notes_40 : decode cX1_notes 40 = .ok (.dup, 1) := dk_89 (dk_at dksX1_notes_1 16 rfl rfl)
theorem dX1_notes_41 : decode cX1_notes 41 = .ok (.getfield 238, 3) := dk_180 0 238 (dk_at dksX1_notes_1 17 rfl rfl)
theorem dX1_notes_44 : decode cX1_notes 44 = .ok (.iconst 1, 1) := dk_4 (dk_at dksX1_notes_1 20 rfl rfl)
theorem dX1_notes_45 : decode cX1_notes 45 = .ok (.isub, 1) := dk_100 (dk_at dksX1_notes_1 21 rfl rfl)
theorem dX1_notes_46 : decode cX1_notes 46 = .ok (.putfield 238, 3) := dk_181 0 238 (dk_at dksX1_notes_2 0 rfl rfl)
theorem dX1_notes_49 : decode cX1_notes 49 = .ok (.aload_n 0, 1) := dk_42 (dk_at dksX1_notes_2 3 rfl rfl)
theorem dX1_notes_50 : decode cX1_notes 50 = .ok (.getfield 7, 3) := dk_180 0 7 (dk_at dksX1_notes_2 4 rfl rfl)
theorem dX1_notes_53 : decode cX1_notes 53 = .ok (.iconst 0, 1) := dk_3 (dk_at dksX1_notes_2 7 rfl rfl)
theorem dX1_notes_54 : decode cX1_notes 54 = .ok (.aload_n 0, 1) := dk_42 (dk_at dksX1_notes_2 8 rfl rfl)
theorem dX1_notes_55 : decode cX1_notes 55 = .ok (.getfield 16, 3) := dk_180 0 16 (dk_at dksX1_notes_2 9 rfl rfl)
theorem dX1_notes_58 : decode cX1_notes 58 = .ok (.bipush 63, 2) := dk_16 63 (dk_at dksX1_notes_2 12 rfl rfl)
theorem dX1_notes_60 : decode cX1_notes 60 = .ok (.aload_n 0, 1) := dk_42 (dk_at dksX1_notes_2 14 rfl rfl)
theorem dX1_notes_61 : decode cX1_notes 61 = .ok (.getfield 238, 3) := dk_180 0 238 (dk_at dksX1_notes_2 15 rfl rfl)
theorem dX1_notes_64 : decode cX1_notes 64 = .ok (.imul, 1) := dk_104 (dk_at dksX1_notes_2 18 rfl rfl)
theorem dX1_notes_65 : decode cX1_notes 65 = .ok (.invokestatic 234, 3) := dk_184 0 234 (dk_at dksX1_notes_2 19 rfl rfl)
theorem dX1_notes_68 : decode cX1_notes 68 = .ok (.aload_n 0, 1) := dk_42 (dk_at dksX1_notes_2 22 rfl rfl)
theorem dX1_notes_69 : decode cX1_notes 69 = .ok (.dup, 1) := dk_89 (dk_at dksX1_notes_2 23 rfl rfl)
theorem dX1_notes_70 : decode cX1_notes 70 = .ok (.getfield 238, 3) := dk_180 0 238 (dk_at dksX1_notes_3 0 rfl rfl)
theorem dX1_notes_73 : decode cX1_notes 73 = .ok (.iconst 1, 1) := dk_4 (dk_at dksX1_notes_3 3 rfl rfl)
theorem dX1_notes_74 : decode cX1_notes 74 = .ok (.iadd, 1) := dk_96 (dk_at dksX1_notes_3 4 rfl rfl)
theorem dX1_notes_75 : decode cX1_notes 75 = .ok (.putfield 238, 3) := dk_181 0 238 (dk_at dksX1_notes_3 5 rfl rfl)
theorem dX1_notes_78 : decode cX1_notes 78 = .ok (.return_, 1) := dk_177 (dk_at dksX1_notes_3 8 rfl rfl)
abbrev cX1_weight : ByteArray := prog_14_method_10_code
def yX1_weight : MethodName := ⟨RX1, "weight", "([III)I"⟩
def dkwX1_weight_1 : List UInt8 := [96, 46, 172]
abbrev dktX1_weight_1 : List UInt8 := dkwX1_weight_1 ++ []
def dkwX1_weight_0 : List UInt8 := [27, 4, 160, 0, 15, 42, 6, 6, 28, 104, 96, 5, 96, 46, 167, 0, 12, 42, 16, 21, 16, 6, 28, 104]
abbrev dktX1_weight_0 : List UInt8 := dkwX1_weight_0 ++ dktX1_weight_1
theorem dksX1_weight_0 : cX1_weight.data.toList.drop 0 = dktX1_weight_0 := by decide +kernel
theorem dksX1_weight_1 : cX1_weight.data.toList.drop 24 = dktX1_weight_1 := dk_seg dksX1_weight_0 24 rfl rfl
theorem dX1_weight_0 : decode cX1_weight 0 = .ok (.iload_n 1, 1) := dk_27 (dk_at dksX1_weight_0 0 rfl rfl)
theorem dX1_weight_1 : decode cX1_weight 1 = .ok (.iconst 1, 1) := dk_4 (dk_at dksX1_weight_0 1 rfl rfl)
theorem dX1_weight_2 : decode cX1_weight 2 = .ok (.if_icmp .ne 15, 3) := dk_160 0 15 (dk_at dksX1_weight_0 2 rfl rfl)
theorem dX1_weight_5 : decode cX1_weight 5 = .ok (.aload_n 0, 1) := dk_42 (dk_at dksX1_weight_0 5 rfl rfl)
theorem dX1_weight_6 : decode cX1_weight 6 = .ok (.iconst 3, 1) := dk_6 (dk_at dksX1_weight_0 6 rfl rfl)
theorem dX1_weight_7 : decode cX1_weight 7 = .ok (.iconst 3, 1) := dk_6 (dk_at dksX1_weight_0 7 rfl rfl)
theorem dX1_weight_8 : decode cX1_weight 8 = .ok (.iload_n 2, 1) := dk_28 (dk_at dksX1_weight_0 8 rfl rfl)
theorem dX1_weight_9 : decode cX1_weight 9 = .ok (.imul, 1) := dk_104 (dk_at dksX1_weight_0 9 rfl rfl)
theorem dX1_weight_10 : decode cX1_weight 10 = .ok (.iadd, 1) := dk_96 (dk_at dksX1_weight_0 10 rfl rfl)
theorem dX1_weight_11 : decode cX1_weight 11 = .ok (.iconst 2, 1) := dk_5 (dk_at dksX1_weight_0 11 rfl rfl)
theorem dX1_weight_12 : decode cX1_weight 12 = .ok (.iadd, 1) := dk_96 (dk_at dksX1_weight_0 12 rfl rfl)
theorem dX1_weight_13 : decode cX1_weight 13 = .ok (.iaload, 1) := dk_46 (dk_at dksX1_weight_0 13 rfl rfl)
theorem dX1_weight_14 : decode cX1_weight 14 = .ok (.goto 12, 3) := dk_167 0 12 (dk_at dksX1_weight_0 14 rfl rfl)
theorem dX1_weight_17 : decode cX1_weight 17 = .ok (.aload_n 0, 1) := dk_42 (dk_at dksX1_weight_0 17 rfl rfl)
theorem dX1_weight_18 : decode cX1_weight 18 = .ok (.bipush 21, 2) := dk_16 21 (dk_at dksX1_weight_0 18 rfl rfl)
theorem dX1_weight_20 : decode cX1_weight 20 = .ok (.bipush 6, 2) := dk_16 6 (dk_at dksX1_weight_0 20 rfl rfl)
theorem dX1_weight_22 : decode cX1_weight 22 = .ok (.iload_n 2, 1) := dk_28 (dk_at dksX1_weight_0 22 rfl rfl)
theorem dX1_weight_23 : decode cX1_weight 23 = .ok (.imul, 1) := dk_104 (dk_at dksX1_weight_0 23 rfl rfl)
theorem dX1_weight_24 : decode cX1_weight 24 = .ok (.iadd, 1) := dk_96 (dk_at dksX1_weight_1 0 rfl rfl)
theorem dX1_weight_25 : decode cX1_weight 25 = .ok (.iaload, 1) := dk_46 (dk_at dksX1_weight_1 1 rfl rfl)
theorem dX1_weight_26 : decode cX1_weight 26 = .ok (.ireturn, 1) := dk_172 (dk_at dksX1_weight_1 2 rfl rfl)
abbrev cX1_edge : ByteArray := prog_14_method_58_code
def yX1_edge : MethodName := ⟨RX1, "edge", "(III)I"⟩
def dkwX1_edge_5 : List UInt8 := [172]
abbrev dktX1_edge_5 : List UInt8 := dkwX1_edge_5 ++ []
def dkwX1_edge_4 : List UInt8 := [132, 4, 1, 167, 255, 226, 42, 180, 0, 7, 27, 28, 29, 184, 0, 197, 42, 180, 0, 7, 4, 46, 4, 100]
abbrev dktX1_edge_4 : List UInt8 := dkwX1_edge_4 ++ dktX1_edge_5
def dkwX1_edge_3 : List UInt8 := [162, 0, 30, 42, 180, 0, 7, 16, 45, 16, 6, 21, 4, 104, 96, 42, 180, 0, 7, 4, 46, 96, 3, 79]
abbrev dktX1_edge_3 : List UInt8 := dkwX1_edge_3 ++ dktX1_edge_4
def dkwX1_edge_2 : List UInt8 := [180, 0, 7, 4, 46, 16, 6, 160, 0, 6, 18, 219, 172, 42, 182, 0, 252, 3, 54, 4, 21, 4, 6]
abbrev dktX1_edge_2 : List UInt8 := dkwX1_edge_2 ++ dktX1_edge_3
def dkwX1_edge_1 : List UInt8 := [182, 0, 247, 153, 0, 15, 29, 133, 10, 20, 0, 250, 184, 0, 150, 154, 0, 6, 18, 218, 172, 42]
abbrev dktX1_edge_1 : List UInt8 := dkwX1_edge_1 ++ dktX1_edge_2
def dkwX1_edge_0 : List UInt8 := [42, 182, 0, 244, 154, 0, 6, 18, 241, 172, 42, 3, 27, 182, 0, 247, 153, 0, 24, 42, 3, 28]
abbrev dktX1_edge_0 : List UInt8 := dkwX1_edge_0 ++ dktX1_edge_1
theorem dksX1_edge_0 : cX1_edge.data.toList.drop 0 = dktX1_edge_0 := by decide +kernel
theorem dksX1_edge_1 : cX1_edge.data.toList.drop 22 = dktX1_edge_1 := dk_seg dksX1_edge_0 22 rfl rfl
theorem dksX1_edge_2 : cX1_edge.data.toList.drop 44 = dktX1_edge_2 := dk_seg dksX1_edge_1 22 rfl rfl
theorem dksX1_edge_3 : cX1_edge.data.toList.drop 67 = dktX1_edge_3 := dk_seg dksX1_edge_2 23 rfl rfl
theorem dksX1_edge_4 : cX1_edge.data.toList.drop 91 = dktX1_edge_4 := dk_seg dksX1_edge_3 24 rfl rfl
theorem dksX1_edge_5 : cX1_edge.data.toList.drop 115 = dktX1_edge_5 := dk_seg dksX1_edge_4 24 rfl rfl
theorem dX1_edge_0 : decode cX1_edge 0 = .ok (.aload_n 0, 1) := dk_42 (dk_at dksX1_edge_0 0 rfl rfl)
theorem dX1_edge_1 : decode cX1_edge 1 = .ok (.invokevirtual 244, 3) := dk_182 0 244 (dk_at dksX1_edge_0 1 rfl rfl)
theorem dX1_edge_4 : decode cX1_edge 4 = .ok (.ifCond .ne 6, 3) := dk_154 0 6 (dk_at dksX1_edge_0 4 rfl rfl)
theorem dX1_edge_7 : decode cX1_edge 7 = .ok (.ldc 241, 2) := dk_18 241 (dk_at dksX1_edge_0 7 rfl rfl)
theorem dX1_edge_9 : decode cX1_edge 9 = .ok (.ireturn, 1) := dk_172 (dk_at dksX1_edge_0 9 rfl rfl)
theorem dX1_edge_10 : decode cX1_edge 10 = .ok (.aload_n 0, 1) := dk_42 (dk_at dksX1_edge_0 10 rfl rfl)
theorem dX1_edge_11 : decode cX1_edge 11 = .ok (.iconst 0, 1) := dk_3 (dk_at dksX1_edge_0 11 rfl rfl)
theorem dX1_edge_12 : decode cX1_edge 12 = .ok (.iload_n 1, 1) := dk_27 (dk_at dksX1_edge_0 12 rfl rfl)
theorem dX1_edge_13 : decode cX1_edge 13 = .ok (.invokevirtual 247, 3) := dk_182 0 247 (dk_at dksX1_edge_0 13 rfl rfl)
theorem dX1_edge_16 : decode cX1_edge 16 = .ok (.ifCond .eq 24, 3) := dk_153 0 24 (dk_at dksX1_edge_0 16 rfl rfl)
theorem dX1_edge_19 : decode cX1_edge 19 = .ok (.aload_n 0, 1) := dk_42 (dk_at dksX1_edge_0 19 rfl rfl)
theorem dX1_edge_20 : decode cX1_edge 20 = .ok (.iconst 0, 1) := dk_3 (dk_at dksX1_edge_0 20 rfl rfl)
theorem dX1_edge_21 : decode cX1_edge 21 = .ok (.iload_n 2, 1) := dk_28 (dk_at dksX1_edge_0 21 rfl rfl)
theorem dX1_edge_22 : decode cX1_edge 22 = .ok (.invokevirtual 247, 3) := dk_182 0 247 (dk_at dksX1_edge_1 0 rfl rfl)
theorem dX1_edge_25 : decode cX1_edge 25 = .ok (.ifCond .eq 15, 3) := dk_153 0 15 (dk_at dksX1_edge_1 3 rfl rfl)
theorem dX1_edge_28 : decode cX1_edge 28 = .ok (.iload_n 3, 1) := dk_29 (dk_at dksX1_edge_1 6 rfl rfl)
theorem dX1_edge_29 : decode cX1_edge 29 = .ok (.i2l, 1) := dk_133 (dk_at dksX1_edge_1 7 rfl rfl)
theorem dX1_edge_30 : decode cX1_edge 30 = .ok (.lconst 1, 1) := dk_10 (dk_at dksX1_edge_1 8 rfl rfl)
theorem dX1_edge_31 : decode cX1_edge 31 = .ok (.ldc2_w 250, 3) := dk_20 0 250 (dk_at dksX1_edge_1 9 rfl rfl)
theorem dX1_edge_34 : decode cX1_edge 34 = .ok (.invokestatic 150, 3) := dk_184 0 150 (dk_at dksX1_edge_1 12 rfl rfl)
theorem dX1_edge_37 : decode cX1_edge 37 = .ok (.ifCond .ne 6, 3) := dk_154 0 6 (dk_at dksX1_edge_1 15 rfl rfl)
theorem dX1_edge_40 : decode cX1_edge 40 = .ok (.ldc 218, 2) := dk_18 218 (dk_at dksX1_edge_1 18 rfl rfl)
theorem dX1_edge_42 : decode cX1_edge 42 = .ok (.ireturn, 1) := dk_172 (dk_at dksX1_edge_1 20 rfl rfl)
theorem dX1_edge_43 : decode cX1_edge 43 = .ok (.aload_n 0, 1) := dk_42 (dk_at dksX1_edge_1 21 rfl rfl)
theorem dX1_edge_44 : decode cX1_edge 44 = .ok (.getfield 7, 3) := dk_180 0 7 (dk_at dksX1_edge_2 0 rfl rfl)
theorem dX1_edge_47 : decode cX1_edge 47 = .ok (.iconst 1, 1) := dk_4 (dk_at dksX1_edge_2 3 rfl rfl)
theorem dX1_edge_48 : decode cX1_edge 48 = .ok (.iaload, 1) := dk_46 (dk_at dksX1_edge_2 4 rfl rfl)
theorem dX1_edge_49 : decode cX1_edge 49 = .ok (.bipush 6, 2) := dk_16 6 (dk_at dksX1_edge_2 5 rfl rfl)
theorem dX1_edge_51 : decode cX1_edge 51 = .ok (.if_icmp .ne 6, 3) := dk_160 0 6 (dk_at dksX1_edge_2 7 rfl rfl)
theorem dX1_edge_54 : decode cX1_edge 54 = .ok (.ldc 219, 2) := dk_18 219 (dk_at dksX1_edge_2 10 rfl rfl)
theorem dX1_edge_56 : decode cX1_edge 56 = .ok (.ireturn, 1) := dk_172 (dk_at dksX1_edge_2 12 rfl rfl)
theorem dX1_edge_57 : decode cX1_edge 57 = .ok (.aload_n 0, 1) := dk_42 (dk_at dksX1_edge_2 13 rfl rfl)
theorem dX1_edge_58 : decode cX1_edge 58 = .ok (.invokevirtual 252, 3) := dk_182 0 252 (dk_at dksX1_edge_2 14 rfl rfl)
theorem dX1_edge_61 : decode cX1_edge 61 = .ok (.iconst 0, 1) := dk_3 (dk_at dksX1_edge_2 17 rfl rfl)
theorem dX1_edge_62 : decode cX1_edge 62 = .ok (.istore 4, 2) := dk_54 4 (dk_at dksX1_edge_2 18 rfl rfl)
theorem dX1_edge_64 : decode cX1_edge 64 = .ok (.iload 4, 2) := dk_21 4 (dk_at dksX1_edge_2 20 rfl rfl)
theorem dX1_edge_66 : decode cX1_edge 66 = .ok (.iconst 3, 1) := dk_6 (dk_at dksX1_edge_2 22 rfl rfl)
theorem dX1_edge_67 : decode cX1_edge 67 = .ok (.if_icmp .ge 30, 3) := dk_162 0 30 (dk_at dksX1_edge_3 0 rfl rfl)
theorem dX1_edge_70 : decode cX1_edge 70 = .ok (.aload_n 0, 1) := dk_42 (dk_at dksX1_edge_3 3 rfl rfl)
theorem dX1_edge_71 : decode cX1_edge 71 = .ok (.getfield 7, 3) := dk_180 0 7 (dk_at dksX1_edge_3 4 rfl rfl)
theorem dX1_edge_74 : decode cX1_edge 74 = .ok (.bipush 45, 2) := dk_16 45 (dk_at dksX1_edge_3 7 rfl rfl)
theorem dX1_edge_76 : decode cX1_edge 76 = .ok (.bipush 6, 2) := dk_16 6 (dk_at dksX1_edge_3 9 rfl rfl)
theorem dX1_edge_78 : decode cX1_edge 78 = .ok (.iload 4, 2) := dk_21 4 (dk_at dksX1_edge_3 11 rfl rfl)
theorem dX1_edge_80 : decode cX1_edge 80 = .ok (.imul, 1) := dk_104 (dk_at dksX1_edge_3 13 rfl rfl)
theorem dX1_edge_81 : decode cX1_edge 81 = .ok (.iadd, 1) := dk_96 (dk_at dksX1_edge_3 14 rfl rfl)
theorem dX1_edge_82 : decode cX1_edge 82 = .ok (.aload_n 0, 1) := dk_42 (dk_at dksX1_edge_3 15 rfl rfl)
theorem dX1_edge_83 : decode cX1_edge 83 = .ok (.getfield 7, 3) := dk_180 0 7 (dk_at dksX1_edge_3 16 rfl rfl)
theorem dX1_edge_86 : decode cX1_edge 86 = .ok (.iconst 1, 1) := dk_4 (dk_at dksX1_edge_3 19 rfl rfl)
theorem dX1_edge_87 : decode cX1_edge 87 = .ok (.iaload, 1) := dk_46 (dk_at dksX1_edge_3 20 rfl rfl)
theorem dX1_edge_88 : decode cX1_edge 88 = .ok (.iadd, 1) := dk_96 (dk_at dksX1_edge_3 21 rfl rfl)
theorem dX1_edge_89 : decode cX1_edge 89 = .ok (.iconst 0, 1) := dk_3 (dk_at dksX1_edge_3 22 rfl rfl)
theorem dX1_edge_90 : decode cX1_edge 90 = .ok (.iastore, 1) := dk_79 (dk_at dksX1_edge_3 23 rfl rfl)
theorem dX1_edge_91 : decode cX1_edge 91 = .ok (.iinc 4 1, 3) := dk_132 4 1 (dk_at dksX1_edge_4 0 rfl rfl)
theorem dX1_edge_94 : decode cX1_edge 94 = .ok (.goto (-30), 3) := dk_167 255 226 (dk_at dksX1_edge_4 3 rfl rfl)
theorem dX1_edge_97 : decode cX1_edge 97 = .ok (.aload_n 0, 1) := dk_42 (dk_at dksX1_edge_4 6 rfl rfl)
theorem dX1_edge_98 : decode cX1_edge 98 = .ok (.getfield 7, 3) := dk_180 0 7 (dk_at dksX1_edge_4 7 rfl rfl)
theorem dX1_edge_101 : decode cX1_edge 101 = .ok (.iload_n 1, 1) := dk_27 (dk_at dksX1_edge_4 10 rfl rfl)
theorem dX1_edge_102 : decode cX1_edge 102 = .ok (.iload_n 2, 1) := dk_28 (dk_at dksX1_edge_4 11 rfl rfl)
theorem dX1_edge_103 : decode cX1_edge 103 = .ok (.iload_n 3, 1) := dk_29 (dk_at dksX1_edge_4 12 rfl rfl)
theorem dX1_edge_104 : decode cX1_edge 104 = .ok (.invokestatic 197, 3) := dk_184 0 197 (dk_at dksX1_edge_4 13 rfl rfl)
theorem dX1_edge_107 : decode cX1_edge 107 = .ok (.aload_n 0, 1) := dk_42 (dk_at dksX1_edge_4 16 rfl rfl)
theorem dX1_edge_108 : decode cX1_edge 108 = .ok (.getfield 7, 3) := dk_180 0 7 (dk_at dksX1_edge_4 17 rfl rfl)
theorem dX1_edge_111 : decode cX1_edge 111 = .ok (.iconst 1, 1) := dk_4 (dk_at dksX1_edge_4 20 rfl rfl)
theorem dX1_edge_112 : decode cX1_edge 112 = .ok (.iaload, 1) := dk_46 (dk_at dksX1_edge_4 21 rfl rfl)
theorem dX1_edge_113 : decode cX1_edge 113 = .ok (.iconst 1, 1) := dk_4 (dk_at dksX1_edge_4 22 rfl rfl)
theorem dX1_edge_114 : decode cX1_edge 114 = .ok (.isub, 1) := dk_100 (dk_at dksX1_edge_4 23 rfl rfl)
theorem dX1_edge_115 : decode cX1_edge 115 = .ok (.ireturn, 1) := dk_172 (dk_at dksX1_edge_5 0 rfl rfl)
abbrev cX1_isComplex : ByteArray := prog_14_method_8_code
def yX1_isComplex : MethodName := ⟨RX1, "isComplex", "()Z"⟩
def dkwX1_isComplex_0 : List UInt8 := [42, 180, 0, 7, 3, 46, 158, 0, 7, 4, 167, 0, 4, 3, 172]
abbrev dktX1_isComplex_0 : List UInt8 := dkwX1_isComplex_0 ++ []
theorem dksX1_isComplex_0 : cX1_isComplex.data.toList.drop 0 = dktX1_isComplex_0 := by decide +kernel
theorem dX1_isComplex_0 : decode cX1_isComplex 0 = .ok (.aload_n 0, 1) := dk_42 (dk_at dksX1_isComplex_0 0 rfl rfl)
theorem dX1_isComplex_1 : decode cX1_isComplex 1 = .ok (.getfield 7, 3) := dk_180 0 7 (dk_at dksX1_isComplex_0 1 rfl rfl)
theorem dX1_isComplex_4 : decode cX1_isComplex 4 = .ok (.iconst 0, 1) := dk_3 (dk_at dksX1_isComplex_0 4 rfl rfl)
theorem dX1_isComplex_5 : decode cX1_isComplex 5 = .ok (.iaload, 1) := dk_46 (dk_at dksX1_isComplex_0 5 rfl rfl)
theorem dX1_isComplex_6 : decode cX1_isComplex 6 = .ok (.ifCond .le 7, 3) := dk_158 0 7 (dk_at dksX1_isComplex_0 6 rfl rfl)
theorem dX1_isComplex_9 : decode cX1_isComplex 9 = .ok (.iconst 1, 1) := dk_4 (dk_at dksX1_isComplex_0 9 rfl rfl)
theorem dX1_isComplex_10 : decode cX1_isComplex 10 = .ok (.goto 4, 3) := dk_167 0 4 (dk_at dksX1_isComplex_0 10 rfl rfl)
theorem dX1_isComplex_13 : decode cX1_isComplex 13 = .ok (.iconst 0, 1) := dk_3 (dk_at dksX1_isComplex_0 13 rfl rfl)
theorem dX1_isComplex_14 : decode cX1_isComplex 14 = .ok (.ireturn, 1) := dk_172 (dk_at dksX1_isComplex_0 14 rfl rfl)
abbrev cX1_face : ByteArray := prog_14_method_60_code
def yX1_face : MethodName := ⟨RX1, "face", "(I)I"⟩
def dkwX1_face_6 : List UInt8 := [96, 79, 28, 172]
abbrev dktX1_face_6 : List UInt8 := dkwX1_face_6 ++ []
def dkwX1_face_5 : List UInt8 := [184, 0, 234, 42, 180, 0, 7, 16, 21, 16, 6, 28, 104, 96, 27, 79, 42, 180, 0, 7, 5, 92, 46, 4]
abbrev dktX1_face_5 : List UInt8 := dkwX1_face_5 ++ dktX1_face_6
def dkwX1_face_4 : List UInt8 := [46, 7, 160, 0, 6, 18, 219, 172, 42, 182, 0, 252, 42, 180, 0, 13, 3, 42, 180, 0, 7, 3]
abbrev dktX1_face_4 : List UInt8 := dkwX1_face_4 ++ dktX1_face_5
def dkwX1_face_3 : List UInt8 := [27, 133, 10, 20, 0, 250, 184, 0, 150, 153, 0, 7, 29, 154, 0, 6, 18, 218, 172, 42, 180, 0, 7, 5]
abbrev dktX1_face_3 : List UInt8 := dkwX1_face_3 ++ dktX1_face_4
def dkwX1_face_2 : List UInt8 := [153, 0, 7, 4, 167, 0, 4, 3, 62, 42, 3, 181, 0, 130, 42, 182, 0, 244, 154, 0, 6, 18, 241, 172]
abbrev dktX1_face_2 : List UInt8 := dkwX1_face_2 ++ dktX1_face_3
def dkwX1_face_1 : List UInt8 := [167, 0, 9, 42, 180, 0, 7, 5, 46, 61, 42, 182, 0, 244, 153, 0, 15, 42, 28, 182, 1, 1]
abbrev dktX1_face_1 : List UInt8 := dkwX1_face_1 ++ dktX1_face_2
def dkwX1_face_0 : List UInt8 := [42, 180, 0, 7, 3, 42, 180, 0, 13, 3, 184, 0, 234, 42, 180, 0, 7, 5, 46, 7, 160, 0, 7, 3]
abbrev dktX1_face_0 : List UInt8 := dkwX1_face_0 ++ dktX1_face_1
theorem dksX1_face_0 : cX1_face.data.toList.drop 0 = dktX1_face_0 := by decide +kernel
theorem dksX1_face_1 : cX1_face.data.toList.drop 24 = dktX1_face_1 := dk_seg dksX1_face_0 24 rfl rfl
theorem dksX1_face_2 : cX1_face.data.toList.drop 46 = dktX1_face_2 := dk_seg dksX1_face_1 22 rfl rfl
theorem dksX1_face_3 : cX1_face.data.toList.drop 70 = dktX1_face_3 := dk_seg dksX1_face_2 24 rfl rfl
theorem dksX1_face_4 : cX1_face.data.toList.drop 94 = dktX1_face_4 := dk_seg dksX1_face_3 24 rfl rfl
theorem dksX1_face_5 : cX1_face.data.toList.drop 116 = dktX1_face_5 := dk_seg dksX1_face_4 22 rfl rfl
theorem dksX1_face_6 : cX1_face.data.toList.drop 140 = dktX1_face_6 := dk_seg dksX1_face_5 24 rfl rfl
theorem dX1_face_0 : decode cX1_face 0 = .ok (.aload_n 0, 1) := dk_42 (dk_at dksX1_face_0 0 rfl rfl)
theorem dX1_face_1 : decode cX1_face 1 = .ok (.getfield 7, 3) := dk_180 0 7 (dk_at dksX1_face_0 1 rfl rfl)
theorem dX1_face_4 : decode cX1_face 4 = .ok (.iconst 0, 1) := dk_3 (dk_at dksX1_face_0 4 rfl rfl)
theorem dX1_face_5 : decode cX1_face 5 = .ok (.aload_n 0, 1) := dk_42 (dk_at dksX1_face_0 5 rfl rfl)
theorem dX1_face_6 : decode cX1_face 6 = .ok (.getfield 13, 3) := dk_180 0 13 (dk_at dksX1_face_0 6 rfl rfl)
theorem dX1_face_9 : decode cX1_face 9 = .ok (.iconst 0, 1) := dk_3 (dk_at dksX1_face_0 9 rfl rfl)
theorem dX1_face_10 : decode cX1_face 10 = .ok (.invokestatic 234, 3) := dk_184 0 234 (dk_at dksX1_face_0 10 rfl rfl)
theorem dX1_face_13 : decode cX1_face 13 = .ok (.aload_n 0, 1) := dk_42 (dk_at dksX1_face_0 13 rfl rfl)
theorem dX1_face_14 : decode cX1_face 14 = .ok (.getfield 7, 3) := dk_180 0 7 (dk_at dksX1_face_0 14 rfl rfl)
theorem dX1_face_17 : decode cX1_face 17 = .ok (.iconst 2, 1) := dk_5 (dk_at dksX1_face_0 17 rfl rfl)
theorem dX1_face_18 : decode cX1_face 18 = .ok (.iaload, 1) := dk_46 (dk_at dksX1_face_0 18 rfl rfl)
theorem dX1_face_19 : decode cX1_face 19 = .ok (.iconst 4, 1) := dk_7 (dk_at dksX1_face_0 19 rfl rfl)
theorem dX1_face_20 : decode cX1_face 20 = .ok (.if_icmp .ne 7, 3) := dk_160 0 7 (dk_at dksX1_face_0 20 rfl rfl)
theorem dX1_face_23 : decode cX1_face 23 = .ok (.iconst 0, 1) := dk_3 (dk_at dksX1_face_0 23 rfl rfl)
theorem dX1_face_24 : decode cX1_face 24 = .ok (.goto 9, 3) := dk_167 0 9 (dk_at dksX1_face_1 0 rfl rfl)
theorem dX1_face_27 : decode cX1_face 27 = .ok (.aload_n 0, 1) := dk_42 (dk_at dksX1_face_1 3 rfl rfl)
theorem dX1_face_28 : decode cX1_face 28 = .ok (.getfield 7, 3) := dk_180 0 7 (dk_at dksX1_face_1 4 rfl rfl)
theorem dX1_face_31 : decode cX1_face 31 = .ok (.iconst 2, 1) := dk_5 (dk_at dksX1_face_1 7 rfl rfl)
theorem dX1_face_32 : decode cX1_face 32 = .ok (.iaload, 1) := dk_46 (dk_at dksX1_face_1 8 rfl rfl)
theorem dX1_face_33 : decode cX1_face 33 = .ok (.istore_n 2, 1) := dk_61 (dk_at dksX1_face_1 9 rfl rfl)
theorem dX1_face_34 : decode cX1_face 34 = .ok (.aload_n 0, 1) := dk_42 (dk_at dksX1_face_1 10 rfl rfl)
theorem dX1_face_35 : decode cX1_face 35 = .ok (.invokevirtual 244, 3) := dk_182 0 244 (dk_at dksX1_face_1 11 rfl rfl)
theorem dX1_face_38 : decode cX1_face 38 = .ok (.ifCond .eq 15, 3) := dk_153 0 15 (dk_at dksX1_face_1 14 rfl rfl)
theorem dX1_face_41 : decode cX1_face 41 = .ok (.aload_n 0, 1) := dk_42 (dk_at dksX1_face_1 17 rfl rfl)
theorem dX1_face_42 : decode cX1_face 42 = .ok (.iload_n 2, 1) := dk_28 (dk_at dksX1_face_1 18 rfl rfl)
theorem dX1_face_43 : decode cX1_face 43 = .ok (.invokevirtual 257, 3) := dk_182 1 1 (dk_at dksX1_face_1 19 rfl rfl)
theorem dX1_face_46 : decode cX1_face 46 = .ok (.ifCond .eq 7, 3) := dk_153 0 7 (dk_at dksX1_face_2 0 rfl rfl)
theorem dX1_face_49 : decode cX1_face 49 = .ok (.iconst 1, 1) := dk_4 (dk_at dksX1_face_2 3 rfl rfl)
theorem dX1_face_50 : decode cX1_face 50 = .ok (.goto 4, 3) := dk_167 0 4 (dk_at dksX1_face_2 4 rfl rfl)
theorem dX1_face_53 : decode cX1_face 53 = .ok (.iconst 0, 1) := dk_3 (dk_at dksX1_face_2 7 rfl rfl)
theorem dX1_face_54 : decode cX1_face 54 = .ok (.istore_n 3, 1) := dk_62 (dk_at dksX1_face_2 8 rfl rfl)
theorem dX1_face_55 : decode cX1_face 55 = .ok (.aload_n 0, 1) := dk_42 (dk_at dksX1_face_2 9 rfl rfl)
theorem dX1_face_56 : decode cX1_face 56 = .ok (.iconst 0, 1) := dk_3 (dk_at dksX1_face_2 10 rfl rfl)
theorem dX1_face_57 : decode cX1_face 57 = .ok (.putfield 130, 3) := dk_181 0 130 (dk_at dksX1_face_2 11 rfl rfl)
theorem dX1_face_60 : decode cX1_face 60 = .ok (.aload_n 0, 1) := dk_42 (dk_at dksX1_face_2 14 rfl rfl)
theorem dX1_face_61 : decode cX1_face 61 = .ok (.invokevirtual 244, 3) := dk_182 0 244 (dk_at dksX1_face_2 15 rfl rfl)
theorem dX1_face_64 : decode cX1_face 64 = .ok (.ifCond .ne 6, 3) := dk_154 0 6 (dk_at dksX1_face_2 18 rfl rfl)
theorem dX1_face_67 : decode cX1_face 67 = .ok (.ldc 241, 2) := dk_18 241 (dk_at dksX1_face_2 21 rfl rfl)
theorem dX1_face_69 : decode cX1_face 69 = .ok (.ireturn, 1) := dk_172 (dk_at dksX1_face_2 23 rfl rfl)
theorem dX1_face_70 : decode cX1_face 70 = .ok (.iload_n 1, 1) := dk_27 (dk_at dksX1_face_3 0 rfl rfl)
theorem dX1_face_71 : decode cX1_face 71 = .ok (.i2l, 1) := dk_133 (dk_at dksX1_face_3 1 rfl rfl)
theorem dX1_face_72 : decode cX1_face 72 = .ok (.lconst 1, 1) := dk_10 (dk_at dksX1_face_3 2 rfl rfl)
theorem dX1_face_73 : decode cX1_face 73 = .ok (.ldc2_w 250, 3) := dk_20 0 250 (dk_at dksX1_face_3 3 rfl rfl)
theorem dX1_face_76 : decode cX1_face 76 = .ok (.invokestatic 150, 3) := dk_184 0 150 (dk_at dksX1_face_3 6 rfl rfl)
theorem dX1_face_79 : decode cX1_face 79 = .ok (.ifCond .eq 7, 3) := dk_153 0 7 (dk_at dksX1_face_3 9 rfl rfl)
theorem dX1_face_82 : decode cX1_face 82 = .ok (.iload_n 3, 1) := dk_29 (dk_at dksX1_face_3 12 rfl rfl)
theorem dX1_face_83 : decode cX1_face 83 = .ok (.ifCond .ne 6, 3) := dk_154 0 6 (dk_at dksX1_face_3 13 rfl rfl)
theorem dX1_face_86 : decode cX1_face 86 = .ok (.ldc 218, 2) := dk_18 218 (dk_at dksX1_face_3 16 rfl rfl)
theorem dX1_face_88 : decode cX1_face 88 = .ok (.ireturn, 1) := dk_172 (dk_at dksX1_face_3 18 rfl rfl)
theorem dX1_face_89 : decode cX1_face 89 = .ok (.aload_n 0, 1) := dk_42 (dk_at dksX1_face_3 19 rfl rfl)
theorem dX1_face_90 : decode cX1_face 90 = .ok (.getfield 7, 3) := dk_180 0 7 (dk_at dksX1_face_3 20 rfl rfl)
theorem dX1_face_93 : decode cX1_face 93 = .ok (.iconst 2, 1) := dk_5 (dk_at dksX1_face_3 23 rfl rfl)
theorem dX1_face_94 : decode cX1_face 94 = .ok (.iaload, 1) := dk_46 (dk_at dksX1_face_4 0 rfl rfl)
theorem dX1_face_95 : decode cX1_face 95 = .ok (.iconst 4, 1) := dk_7 (dk_at dksX1_face_4 1 rfl rfl)
theorem dX1_face_96 : decode cX1_face 96 = .ok (.if_icmp .ne 6, 3) := dk_160 0 6 (dk_at dksX1_face_4 2 rfl rfl)
theorem dX1_face_99 : decode cX1_face 99 = .ok (.ldc 219, 2) := dk_18 219 (dk_at dksX1_face_4 5 rfl rfl)
theorem dX1_face_101 : decode cX1_face 101 = .ok (.ireturn, 1) := dk_172 (dk_at dksX1_face_4 7 rfl rfl)
theorem dX1_face_102 : decode cX1_face 102 = .ok (.aload_n 0, 1) := dk_42 (dk_at dksX1_face_4 8 rfl rfl)
theorem dX1_face_103 : decode cX1_face 103 = .ok (.invokevirtual 252, 3) := dk_182 0 252 (dk_at dksX1_face_4 9 rfl rfl)
theorem dX1_face_106 : decode cX1_face 106 = .ok (.aload_n 0, 1) := dk_42 (dk_at dksX1_face_4 12 rfl rfl)
theorem dX1_face_107 : decode cX1_face 107 = .ok (.getfield 13, 3) := dk_180 0 13 (dk_at dksX1_face_4 13 rfl rfl)
theorem dX1_face_110 : decode cX1_face 110 = .ok (.iconst 0, 1) := dk_3 (dk_at dksX1_face_4 16 rfl rfl)
theorem dX1_face_111 : decode cX1_face 111 = .ok (.aload_n 0, 1) := dk_42 (dk_at dksX1_face_4 17 rfl rfl)
theorem dX1_face_112 : decode cX1_face 112 = .ok (.getfield 7, 3) := dk_180 0 7 (dk_at dksX1_face_4 18 rfl rfl)
theorem dX1_face_115 : decode cX1_face 115 = .ok (.iconst 0, 1) := dk_3 (dk_at dksX1_face_4 21 rfl rfl)
theorem dX1_face_116 : decode cX1_face 116 = .ok (.invokestatic 234, 3) := dk_184 0 234 (dk_at dksX1_face_5 0 rfl rfl)
theorem dX1_face_119 : decode cX1_face 119 = .ok (.aload_n 0, 1) := dk_42 (dk_at dksX1_face_5 3 rfl rfl)
theorem dX1_face_120 : decode cX1_face 120 = .ok (.getfield 7, 3) := dk_180 0 7 (dk_at dksX1_face_5 4 rfl rfl)
theorem dX1_face_123 : decode cX1_face 123 = .ok (.bipush 21, 2) := dk_16 21 (dk_at dksX1_face_5 7 rfl rfl)
theorem dX1_face_125 : decode cX1_face 125 = .ok (.bipush 6, 2) := dk_16 6 (dk_at dksX1_face_5 9 rfl rfl)
theorem dX1_face_127 : decode cX1_face 127 = .ok (.iload_n 2, 1) := dk_28 (dk_at dksX1_face_5 11 rfl rfl)
theorem dX1_face_128 : decode cX1_face 128 = .ok (.imul, 1) := dk_104 (dk_at dksX1_face_5 12 rfl rfl)
theorem dX1_face_129 : decode cX1_face 129 = .ok (.iadd, 1) := dk_96 (dk_at dksX1_face_5 13 rfl rfl)
theorem dX1_face_130 : decode cX1_face 130 = .ok (.iload_n 1, 1) := dk_27 (dk_at dksX1_face_5 14 rfl rfl)
theorem dX1_face_131 : decode cX1_face 131 = .ok (.iastore, 1) := dk_79 (dk_at dksX1_face_5 15 rfl rfl)
theorem dX1_face_132 : decode cX1_face 132 = .ok (.aload_n 0, 1) := dk_42 (dk_at dksX1_face_5 16 rfl rfl)
theorem dX1_face_133 : decode cX1_face 133 = .ok (.getfield 7, 3) := dk_180 0 7 (dk_at dksX1_face_5 17 rfl rfl)
theorem dX1_face_136 : decode cX1_face 136 = .ok (.iconst 2, 1) := dk_5 (dk_at dksX1_face_5 20 rfl rfl)
theorem dX1_face_137 : decode cX1_face 137 = .ok (.dup2, 1) := dk_92 (dk_at dksX1_face_5 21 rfl rfl)
theorem dX1_face_138 : decode cX1_face 138 = .ok (.iaload, 1) := dk_46 (dk_at dksX1_face_5 22 rfl rfl)
theorem dX1_face_139 : decode cX1_face 139 = .ok (.iconst 1, 1) := dk_4 (dk_at dksX1_face_5 23 rfl rfl)
theorem dX1_face_140 : decode cX1_face 140 = .ok (.iadd, 1) := dk_96 (dk_at dksX1_face_6 0 rfl rfl)
theorem dX1_face_141 : decode cX1_face 141 = .ok (.iastore, 1) := dk_79 (dk_at dksX1_face_6 1 rfl rfl)
theorem dX1_face_142 : decode cX1_face 142 = .ok (.iload_n 2, 1) := dk_28 (dk_at dksX1_face_6 2 rfl rfl)
theorem dX1_face_143 : decode cX1_face 143 = .ok (.ireturn, 1) := dk_172 (dk_at dksX1_face_6 3 rfl rfl)
abbrev cX1_isWord : ByteArray := prog_14_method_59_code
def yX1_isWord : MethodName := ⟨RX1, "isWord", "(I)Z"⟩
def dkwX1_isWord_4 : List UInt8 := [180, 0, 13, 27, 184, 0, 212, 153, 0, 7, 4, 167, 0, 4, 3, 172]
abbrev dktX1_isWord_4 : List UInt8 := dkwX1_isWord_4 ++ []
def dkwX1_isWord_3 : List UInt8 := [153, 0, 13, 42, 180, 0, 13, 27, 21, 4, 184, 0, 208, 132, 3, 1, 167, 255, 201, 28, 153, 0, 18, 42]
abbrev dktX1_isWord_3 : List UInt8 := dkwX1_isWord_3 ++ dktX1_isWord_4
def dkwX1_isWord_2 : List UInt8 := [180, 0, 26, 29, 46, 184, 0, 201, 54, 4, 42, 180, 0, 13, 27, 21, 4, 184, 0, 204, 61, 28]
abbrev dktX1_isWord_2 : List UInt8 := dkwX1_isWord_2 ++ dktX1_isWord_3
def dkwX1_isWord_1 : List UInt8 := [184, 0, 150, 61, 3, 62, 29, 42, 180, 0, 130, 162, 0, 53, 28, 153, 0, 49, 42, 180, 0, 13, 42]
abbrev dktX1_isWord_1 : List UInt8 := dkwX1_isWord_1 ++ dktX1_isWord_2
def dkwX1_isWord_0 : List UInt8 := [42, 180, 0, 13, 16, 21, 16, 6, 27, 104, 96, 4, 96, 3, 79, 42, 180, 0, 130, 133, 10, 20, 0, 255]
abbrev dktX1_isWord_0 : List UInt8 := dkwX1_isWord_0 ++ dktX1_isWord_1
theorem dksX1_isWord_0 : cX1_isWord.data.toList.drop 0 = dktX1_isWord_0 := by decide +kernel
theorem dksX1_isWord_1 : cX1_isWord.data.toList.drop 24 = dktX1_isWord_1 := dk_seg dksX1_isWord_0 24 rfl rfl
theorem dksX1_isWord_2 : cX1_isWord.data.toList.drop 47 = dktX1_isWord_2 := dk_seg dksX1_isWord_1 23 rfl rfl
theorem dksX1_isWord_3 : cX1_isWord.data.toList.drop 69 = dktX1_isWord_3 := dk_seg dksX1_isWord_2 22 rfl rfl
theorem dksX1_isWord_4 : cX1_isWord.data.toList.drop 93 = dktX1_isWord_4 := dk_seg dksX1_isWord_3 24 rfl rfl
theorem dX1_isWord_0 : decode cX1_isWord 0 = .ok (.aload_n 0, 1) := dk_42 (dk_at dksX1_isWord_0 0 rfl rfl)
theorem dX1_isWord_1 : decode cX1_isWord 1 = .ok (.getfield 13, 3) := dk_180 0 13 (dk_at dksX1_isWord_0 1 rfl rfl)
theorem dX1_isWord_4 : decode cX1_isWord 4 = .ok (.bipush 21, 2) := dk_16 21 (dk_at dksX1_isWord_0 4 rfl rfl)
theorem dX1_isWord_6 : decode cX1_isWord 6 = .ok (.bipush 6, 2) := dk_16 6 (dk_at dksX1_isWord_0 6 rfl rfl)
theorem dX1_isWord_8 : decode cX1_isWord 8 = .ok (.iload_n 1, 1) := dk_27 (dk_at dksX1_isWord_0 8 rfl rfl)
theorem dX1_isWord_9 : decode cX1_isWord 9 = .ok (.imul, 1) := dk_104 (dk_at dksX1_isWord_0 9 rfl rfl)
theorem dX1_isWord_10 : decode cX1_isWord 10 = .ok (.iadd, 1) := dk_96 (dk_at dksX1_isWord_0 10 rfl rfl)
theorem dX1_isWord_11 : decode cX1_isWord 11 = .ok (.iconst 1, 1) := dk_4 (dk_at dksX1_isWord_0 11 rfl rfl)
theorem dX1_isWord_12 : decode cX1_isWord 12 = .ok (.iadd, 1) := dk_96 (dk_at dksX1_isWord_0 12 rfl rfl)
theorem dX1_isWord_13 : decode cX1_isWord 13 = .ok (.iconst 0, 1) := dk_3 (dk_at dksX1_isWord_0 13 rfl rfl)
theorem dX1_isWord_14 : decode cX1_isWord 14 = .ok (.iastore, 1) := dk_79 (dk_at dksX1_isWord_0 14 rfl rfl)
theorem dX1_isWord_15 : decode cX1_isWord 15 = .ok (.aload_n 0, 1) := dk_42 (dk_at dksX1_isWord_0 15 rfl rfl)
theorem dX1_isWord_16 : decode cX1_isWord 16 = .ok (.getfield 130, 3) := dk_180 0 130 (dk_at dksX1_isWord_0 16 rfl rfl)
theorem dX1_isWord_19 : decode cX1_isWord 19 = .ok (.i2l, 1) := dk_133 (dk_at dksX1_isWord_0 19 rfl rfl)
theorem dX1_isWord_20 : decode cX1_isWord 20 = .ok (.lconst 1, 1) := dk_10 (dk_at dksX1_isWord_0 20 rfl rfl)
theorem dX1_isWord_21 : decode cX1_isWord 21 = .ok (.ldc2_w 255, 3) := dk_20 0 255 (dk_at dksX1_isWord_0 21 rfl rfl)
theorem dX1_isWord_24 : decode cX1_isWord 24 = .ok (.invokestatic 150, 3) := dk_184 0 150 (dk_at dksX1_isWord_1 0 rfl rfl)
theorem dX1_isWord_27 : decode cX1_isWord 27 = .ok (.istore_n 2, 1) := dk_61 (dk_at dksX1_isWord_1 3 rfl rfl)
theorem dX1_isWord_28 : decode cX1_isWord 28 = .ok (.iconst 0, 1) := dk_3 (dk_at dksX1_isWord_1 4 rfl rfl)
theorem dX1_isWord_29 : decode cX1_isWord 29 = .ok (.istore_n 3, 1) := dk_62 (dk_at dksX1_isWord_1 5 rfl rfl)
theorem dX1_isWord_30 : decode cX1_isWord 30 = .ok (.iload_n 3, 1) := dk_29 (dk_at dksX1_isWord_1 6 rfl rfl)
theorem dX1_isWord_31 : decode cX1_isWord 31 = .ok (.aload_n 0, 1) := dk_42 (dk_at dksX1_isWord_1 7 rfl rfl)
theorem dX1_isWord_32 : decode cX1_isWord 32 = .ok (.getfield 130, 3) := dk_180 0 130 (dk_at dksX1_isWord_1 8 rfl rfl)
theorem dX1_isWord_35 : decode cX1_isWord 35 = .ok (.if_icmp .ge 53, 3) := dk_162 0 53 (dk_at dksX1_isWord_1 11 rfl rfl)
theorem dX1_isWord_38 : decode cX1_isWord 38 = .ok (.iload_n 2, 1) := dk_28 (dk_at dksX1_isWord_1 14 rfl rfl)
theorem dX1_isWord_39 : decode cX1_isWord 39 = .ok (.ifCond .eq 49, 3) := dk_153 0 49 (dk_at dksX1_isWord_1 15 rfl rfl)
theorem dX1_isWord_42 : decode cX1_isWord 42 = .ok (.aload_n 0, 1) := dk_42 (dk_at dksX1_isWord_1 18 rfl rfl)
theorem dX1_isWord_43 : decode cX1_isWord 43 = .ok (.getfield 13, 3) := dk_180 0 13 (dk_at dksX1_isWord_1 19 rfl rfl)
theorem dX1_isWord_46 : decode cX1_isWord 46 = .ok (.aload_n 0, 1) := dk_42 (dk_at dksX1_isWord_1 22 rfl rfl)
theorem dX1_isWord_47 : decode cX1_isWord 47 = .ok (.getfield 26, 3) := dk_180 0 26 (dk_at dksX1_isWord_2 0 rfl rfl)
theorem dX1_isWord_50 : decode cX1_isWord 50 = .ok (.iload_n 3, 1) := dk_29 (dk_at dksX1_isWord_2 3 rfl rfl)
theorem dX1_isWord_51 : decode cX1_isWord 51 = .ok (.iaload, 1) := dk_46 (dk_at dksX1_isWord_2 4 rfl rfl)
theorem dX1_isWord_52 : decode cX1_isWord 52 = .ok (.invokestatic 201, 3) := dk_184 0 201 (dk_at dksX1_isWord_2 5 rfl rfl)
theorem dX1_isWord_55 : decode cX1_isWord 55 = .ok (.istore 4, 2) := dk_54 4 (dk_at dksX1_isWord_2 8 rfl rfl)
theorem dX1_isWord_57 : decode cX1_isWord 57 = .ok (.aload_n 0, 1) := dk_42 (dk_at dksX1_isWord_2 10 rfl rfl)
theorem dX1_isWord_58 : decode cX1_isWord 58 = .ok (.getfield 13, 3) := dk_180 0 13 (dk_at dksX1_isWord_2 11 rfl rfl)
theorem dX1_isWord_61 : decode cX1_isWord 61 = .ok (.iload_n 1, 1) := dk_27 (dk_at dksX1_isWord_2 14 rfl rfl)
theorem dX1_isWord_62 : decode cX1_isWord 62 = .ok (.iload 4, 2) := dk_21 4 (dk_at dksX1_isWord_2 15 rfl rfl)
theorem dX1_isWord_64 : decode cX1_isWord 64 = .ok (.invokestatic 204, 3) := dk_184 0 204 (dk_at dksX1_isWord_2 17 rfl rfl)
theorem dX1_isWord_67 : decode cX1_isWord 67 = .ok (.istore_n 2, 1) := dk_61 (dk_at dksX1_isWord_2 20 rfl rfl)
theorem dX1_isWord_68 : decode cX1_isWord 68 = .ok (.iload_n 2, 1) := dk_28 (dk_at dksX1_isWord_2 21 rfl rfl)
theorem dX1_isWord_69 : decode cX1_isWord 69 = .ok (.ifCond .eq 13, 3) := dk_153 0 13 (dk_at dksX1_isWord_3 0 rfl rfl)
theorem dX1_isWord_72 : decode cX1_isWord 72 = .ok (.aload_n 0, 1) := dk_42 (dk_at dksX1_isWord_3 3 rfl rfl)
theorem dX1_isWord_73 : decode cX1_isWord 73 = .ok (.getfield 13, 3) := dk_180 0 13 (dk_at dksX1_isWord_3 4 rfl rfl)
theorem dX1_isWord_76 : decode cX1_isWord 76 = .ok (.iload_n 1, 1) := dk_27 (dk_at dksX1_isWord_3 7 rfl rfl)
theorem dX1_isWord_77 : decode cX1_isWord 77 = .ok (.iload 4, 2) := dk_21 4 (dk_at dksX1_isWord_3 8 rfl rfl)
theorem dX1_isWord_79 : decode cX1_isWord 79 = .ok (.invokestatic 208, 3) := dk_184 0 208 (dk_at dksX1_isWord_3 10 rfl rfl)
theorem dX1_isWord_82 : decode cX1_isWord 82 = .ok (.iinc 3 1, 3) := dk_132 3 1 (dk_at dksX1_isWord_3 13 rfl rfl)
theorem dX1_isWord_85 : decode cX1_isWord 85 = .ok (.goto (-55), 3) := dk_167 255 201 (dk_at dksX1_isWord_3 16 rfl rfl)
theorem dX1_isWord_88 : decode cX1_isWord 88 = .ok (.iload_n 2, 1) := dk_28 (dk_at dksX1_isWord_3 19 rfl rfl)
theorem dX1_isWord_89 : decode cX1_isWord 89 = .ok (.ifCond .eq 18, 3) := dk_153 0 18 (dk_at dksX1_isWord_3 20 rfl rfl)
theorem dX1_isWord_92 : decode cX1_isWord 92 = .ok (.aload_n 0, 1) := dk_42 (dk_at dksX1_isWord_3 23 rfl rfl)
theorem dX1_isWord_93 : decode cX1_isWord 93 = .ok (.getfield 13, 3) := dk_180 0 13 (dk_at dksX1_isWord_4 0 rfl rfl)
theorem dX1_isWord_96 : decode cX1_isWord 96 = .ok (.iload_n 1, 1) := dk_27 (dk_at dksX1_isWord_4 3 rfl rfl)
theorem dX1_isWord_97 : decode cX1_isWord 97 = .ok (.invokestatic 212, 3) := dk_184 0 212 (dk_at dksX1_isWord_4 4 rfl rfl)
theorem dX1_isWord_100 : decode cX1_isWord 100 = .ok (.ifCond .eq 7, 3) := dk_153 0 7 (dk_at dksX1_isWord_4 7 rfl rfl)
theorem dX1_isWord_103 : decode cX1_isWord 103 = .ok (.iconst 1, 1) := dk_4 (dk_at dksX1_isWord_4 10 rfl rfl)
theorem dX1_isWord_104 : decode cX1_isWord 104 = .ok (.goto 4, 3) := dk_167 0 4 (dk_at dksX1_isWord_4 11 rfl rfl)
theorem dX1_isWord_107 : decode cX1_isWord 107 = .ok (.iconst 0, 1) := dk_3 (dk_at dksX1_isWord_4 14 rfl rfl)
theorem dX1_isWord_108 : decode cX1_isWord 108 = .ok (.ireturn, 1) := dk_172 (dk_at dksX1_isWord_4 15 rfl rfl)
abbrev cX1_drop : ByteArray := prog_14_method_63_code
def yX1_drop : MethodName := ⟨RX1, "drop", "(II)I"⟩
def dkwX1_drop_4 : List UInt8 := [4, 100, 79, 42, 180, 0, 7, 5, 46, 172]
abbrev dktX1_drop_4 : List UInt8 := dkwX1_drop_4 ++ []
def dkwX1_drop_3 : List UInt8 := [29, 42, 180, 0, 7, 29, 16, 6, 96, 46, 79, 132, 3, 1, 167, 255, 232, 42, 180, 0, 7, 5, 92, 46]
abbrev dktX1_drop_3 : List UInt8 := dkwX1_drop_3 ++ dktX1_drop_4
def dkwX1_drop_2 : List UInt8 := [180, 0, 7, 4, 46, 172, 16, 21, 16, 6, 28, 104, 96, 62, 29, 16, 39, 162, 0, 24, 42, 180, 0, 7]
abbrev dktX1_drop_2 : List UInt8 := dkwX1_drop_2 ++ dktX1_drop_3
def dkwX1_drop_1 : List UInt8 := [182, 1, 4, 153, 0, 6, 18, 241, 172, 42, 182, 0, 252, 27, 4, 160, 0, 15, 42, 28, 182, 1, 7, 42]
abbrev dktX1_drop_1 : List UInt8 := dkwX1_drop_1 ++ dktX1_drop_2
def dkwX1_drop_0 : List UInt8 := [27, 153, 0, 12, 42, 27, 28, 182, 0, 247, 154, 0, 6, 18, 218, 172, 27, 4, 160, 0, 14, 42, 28]
abbrev dktX1_drop_0 : List UInt8 := dkwX1_drop_0 ++ dktX1_drop_1
theorem dksX1_drop_0 : cX1_drop.data.toList.drop 0 = dktX1_drop_0 := by decide +kernel
theorem dksX1_drop_1 : cX1_drop.data.toList.drop 23 = dktX1_drop_1 := dk_seg dksX1_drop_0 23 rfl rfl
theorem dksX1_drop_2 : cX1_drop.data.toList.drop 47 = dktX1_drop_2 := dk_seg dksX1_drop_1 24 rfl rfl
theorem dksX1_drop_3 : cX1_drop.data.toList.drop 71 = dktX1_drop_3 := dk_seg dksX1_drop_2 24 rfl rfl
theorem dksX1_drop_4 : cX1_drop.data.toList.drop 95 = dktX1_drop_4 := dk_seg dksX1_drop_3 24 rfl rfl
theorem dX1_drop_0 : decode cX1_drop 0 = .ok (.iload_n 1, 1) := dk_27 (dk_at dksX1_drop_0 0 rfl rfl)
theorem dX1_drop_1 : decode cX1_drop 1 = .ok (.ifCond .eq 12, 3) := dk_153 0 12 (dk_at dksX1_drop_0 1 rfl rfl)
theorem dX1_drop_4 : decode cX1_drop 4 = .ok (.aload_n 0, 1) := dk_42 (dk_at dksX1_drop_0 4 rfl rfl)
theorem dX1_drop_5 : decode cX1_drop 5 = .ok (.iload_n 1, 1) := dk_27 (dk_at dksX1_drop_0 5 rfl rfl)
theorem dX1_drop_6 : decode cX1_drop 6 = .ok (.iload_n 2, 1) := dk_28 (dk_at dksX1_drop_0 6 rfl rfl)
theorem dX1_drop_7 : decode cX1_drop 7 = .ok (.invokevirtual 247, 3) := dk_182 0 247 (dk_at dksX1_drop_0 7 rfl rfl)
theorem dX1_drop_10 : decode cX1_drop 10 = .ok (.ifCond .ne 6, 3) := dk_154 0 6 (dk_at dksX1_drop_0 10 rfl rfl)
theorem dX1_drop_13 : decode cX1_drop 13 = .ok (.ldc 218, 2) := dk_18 218 (dk_at dksX1_drop_0 13 rfl rfl)
theorem dX1_drop_15 : decode cX1_drop 15 = .ok (.ireturn, 1) := dk_172 (dk_at dksX1_drop_0 15 rfl rfl)
theorem dX1_drop_16 : decode cX1_drop 16 = .ok (.iload_n 1, 1) := dk_27 (dk_at dksX1_drop_0 16 rfl rfl)
theorem dX1_drop_17 : decode cX1_drop 17 = .ok (.iconst 1, 1) := dk_4 (dk_at dksX1_drop_0 17 rfl rfl)
theorem dX1_drop_18 : decode cX1_drop 18 = .ok (.if_icmp .ne 14, 3) := dk_160 0 14 (dk_at dksX1_drop_0 18 rfl rfl)
theorem dX1_drop_21 : decode cX1_drop 21 = .ok (.aload_n 0, 1) := dk_42 (dk_at dksX1_drop_0 21 rfl rfl)
theorem dX1_drop_22 : decode cX1_drop 22 = .ok (.iload_n 2, 1) := dk_28 (dk_at dksX1_drop_0 22 rfl rfl)
theorem dX1_drop_23 : decode cX1_drop 23 = .ok (.invokevirtual 260, 3) := dk_182 1 4 (dk_at dksX1_drop_1 0 rfl rfl)
theorem dX1_drop_26 : decode cX1_drop 26 = .ok (.ifCond .eq 6, 3) := dk_153 0 6 (dk_at dksX1_drop_1 3 rfl rfl)
theorem dX1_drop_29 : decode cX1_drop 29 = .ok (.ldc 241, 2) := dk_18 241 (dk_at dksX1_drop_1 6 rfl rfl)
theorem dX1_drop_31 : decode cX1_drop 31 = .ok (.ireturn, 1) := dk_172 (dk_at dksX1_drop_1 8 rfl rfl)
theorem dX1_drop_32 : decode cX1_drop 32 = .ok (.aload_n 0, 1) := dk_42 (dk_at dksX1_drop_1 9 rfl rfl)
theorem dX1_drop_33 : decode cX1_drop 33 = .ok (.invokevirtual 252, 3) := dk_182 0 252 (dk_at dksX1_drop_1 10 rfl rfl)
theorem dX1_drop_36 : decode cX1_drop 36 = .ok (.iload_n 1, 1) := dk_27 (dk_at dksX1_drop_1 13 rfl rfl)
theorem dX1_drop_37 : decode cX1_drop 37 = .ok (.iconst 1, 1) := dk_4 (dk_at dksX1_drop_1 14 rfl rfl)
theorem dX1_drop_38 : decode cX1_drop 38 = .ok (.if_icmp .ne 15, 3) := dk_160 0 15 (dk_at dksX1_drop_1 15 rfl rfl)
theorem dX1_drop_41 : decode cX1_drop 41 = .ok (.aload_n 0, 1) := dk_42 (dk_at dksX1_drop_1 18 rfl rfl)
theorem dX1_drop_42 : decode cX1_drop 42 = .ok (.iload_n 2, 1) := dk_28 (dk_at dksX1_drop_1 19 rfl rfl)
theorem dX1_drop_43 : decode cX1_drop 43 = .ok (.invokevirtual 263, 3) := dk_182 1 7 (dk_at dksX1_drop_1 20 rfl rfl)
theorem dX1_drop_46 : decode cX1_drop 46 = .ok (.aload_n 0, 1) := dk_42 (dk_at dksX1_drop_1 23 rfl rfl)
theorem dX1_drop_47 : decode cX1_drop 47 = .ok (.getfield 7, 3) := dk_180 0 7 (dk_at dksX1_drop_2 0 rfl rfl)
theorem dX1_drop_50 : decode cX1_drop 50 = .ok (.iconst 1, 1) := dk_4 (dk_at dksX1_drop_2 3 rfl rfl)
theorem dX1_drop_51 : decode cX1_drop 51 = .ok (.iaload, 1) := dk_46 (dk_at dksX1_drop_2 4 rfl rfl)
theorem dX1_drop_52 : decode cX1_drop 52 = .ok (.ireturn, 1) := dk_172 (dk_at dksX1_drop_2 5 rfl rfl)
theorem dX1_drop_53 : decode cX1_drop 53 = .ok (.bipush 21, 2) := dk_16 21 (dk_at dksX1_drop_2 6 rfl rfl)
theorem dX1_drop_55 : decode cX1_drop 55 = .ok (.bipush 6, 2) := dk_16 6 (dk_at dksX1_drop_2 8 rfl rfl)
theorem dX1_drop_57 : decode cX1_drop 57 = .ok (.iload_n 2, 1) := dk_28 (dk_at dksX1_drop_2 10 rfl rfl)
theorem dX1_drop_58 : decode cX1_drop 58 = .ok (.imul, 1) := dk_104 (dk_at dksX1_drop_2 11 rfl rfl)
theorem dX1_drop_59 : decode cX1_drop 59 = .ok (.iadd, 1) := dk_96 (dk_at dksX1_drop_2 12 rfl rfl)
theorem dX1_drop_60 : decode cX1_drop 60 = .ok (.istore_n 3, 1) := dk_62 (dk_at dksX1_drop_2 13 rfl rfl)
theorem dX1_drop_61 : decode cX1_drop 61 = .ok (.iload_n 3, 1) := dk_29 (dk_at dksX1_drop_2 14 rfl rfl)
theorem dX1_drop_62 : decode cX1_drop 62 = .ok (.bipush 39, 2) := dk_16 39 (dk_at dksX1_drop_2 15 rfl rfl)
theorem dX1_drop_64 : decode cX1_drop 64 = .ok (.if_icmp .ge 24, 3) := dk_162 0 24 (dk_at dksX1_drop_2 17 rfl rfl)
theorem dX1_drop_67 : decode cX1_drop 67 = .ok (.aload_n 0, 1) := dk_42 (dk_at dksX1_drop_2 20 rfl rfl)
theorem dX1_drop_68 : decode cX1_drop 68 = .ok (.getfield 7, 3) := dk_180 0 7 (dk_at dksX1_drop_2 21 rfl rfl)
theorem dX1_drop_71 : decode cX1_drop 71 = .ok (.iload_n 3, 1) := dk_29 (dk_at dksX1_drop_3 0 rfl rfl)
theorem dX1_drop_72 : decode cX1_drop 72 = .ok (.aload_n 0, 1) := dk_42 (dk_at dksX1_drop_3 1 rfl rfl)
theorem dX1_drop_73 : decode cX1_drop 73 = .ok (.getfield 7, 3) := dk_180 0 7 (dk_at dksX1_drop_3 2 rfl rfl)
theorem dX1_drop_76 : decode cX1_drop 76 = .ok (.iload_n 3, 1) := dk_29 (dk_at dksX1_drop_3 5 rfl rfl)
theorem dX1_drop_77 : decode cX1_drop 77 = .ok (.bipush 6, 2) := dk_16 6 (dk_at dksX1_drop_3 6 rfl rfl)
theorem dX1_drop_79 : decode cX1_drop 79 = .ok (.iadd, 1) := dk_96 (dk_at dksX1_drop_3 8 rfl rfl)
theorem dX1_drop_80 : decode cX1_drop 80 = .ok (.iaload, 1) := dk_46 (dk_at dksX1_drop_3 9 rfl rfl)
theorem dX1_drop_81 : decode cX1_drop 81 = .ok (.iastore, 1) := dk_79 (dk_at dksX1_drop_3 10 rfl rfl)
theorem dX1_drop_82 : decode cX1_drop 82 = .ok (.iinc 3 1, 3) := dk_132 3 1 (dk_at dksX1_drop_3 11 rfl rfl)
theorem dX1_drop_85 : decode cX1_drop 85 = .ok (.goto (-24), 3) := dk_167 255 232 (dk_at dksX1_drop_3 14 rfl rfl)
theorem dX1_drop_88 : decode cX1_drop 88 = .ok (.aload_n 0, 1) := dk_42 (dk_at dksX1_drop_3 17 rfl rfl)
theorem dX1_drop_89 : decode cX1_drop 89 = .ok (.getfield 7, 3) := dk_180 0 7 (dk_at dksX1_drop_3 18 rfl rfl)
theorem dX1_drop_92 : decode cX1_drop 92 = .ok (.iconst 2, 1) := dk_5 (dk_at dksX1_drop_3 21 rfl rfl)
theorem dX1_drop_93 : decode cX1_drop 93 = .ok (.dup2, 1) := dk_92 (dk_at dksX1_drop_3 22 rfl rfl)
theorem dX1_drop_94 : decode cX1_drop 94 = .ok (.iaload, 1) := dk_46 (dk_at dksX1_drop_3 23 rfl rfl)
theorem dX1_drop_95 : decode cX1_drop 95 = .ok (.iconst 1, 1) := dk_4 (dk_at dksX1_drop_4 0 rfl rfl)
theorem dX1_drop_96 : decode cX1_drop 96 = .ok (.isub, 1) := dk_100 (dk_at dksX1_drop_4 1 rfl rfl)
theorem dX1_drop_97 : decode cX1_drop 97 = .ok (.iastore, 1) := dk_79 (dk_at dksX1_drop_4 2 rfl rfl)
theorem dX1_drop_98 : decode cX1_drop 98 = .ok (.aload_n 0, 1) := dk_42 (dk_at dksX1_drop_4 3 rfl rfl)
theorem dX1_drop_99 : decode cX1_drop 99 = .ok (.getfield 7, 3) := dk_180 0 7 (dk_at dksX1_drop_4 4 rfl rfl)
theorem dX1_drop_102 : decode cX1_drop 102 = .ok (.iconst 2, 1) := dk_5 (dk_at dksX1_drop_4 7 rfl rfl)
theorem dX1_drop_103 : decode cX1_drop 103 = .ok (.iaload, 1) := dk_46 (dk_at dksX1_drop_4 8 rfl rfl)
theorem dX1_drop_104 : decode cX1_drop 104 = .ok (.ireturn, 1) := dk_172 (dk_at dksX1_drop_4 9 rfl rfl)
abbrev cX1_isSpelled : ByteArray := prog_14_method_61_code
def yX1_isSpelled : MethodName := ⟨RX1, "isSpelled", "(I)Z"⟩
def dkwX1_isSpelled_2 : List UInt8 := [184, 0, 64, 184, 0, 52, 27, 160, 0, 7, 4, 167, 0, 4, 3, 61, 132, 3, 1, 167, 255, 195, 28, 172]
abbrev dktX1_isSpelled_2 : List UInt8 := dkwX1_isSpelled_2 ++ []
def dkwX1_isSpelled_1 : List UInt8 := [180, 0, 7, 29, 7, 108, 184, 0, 60, 162, 0, 27, 42, 180, 0, 7, 29, 7, 108, 29, 7, 112]
abbrev dktX1_isSpelled_1 : List UInt8 := dkwX1_isSpelled_1 ++ dktX1_isSpelled_2
def dkwX1_isSpelled_0 : List UInt8 := [3, 61, 3, 62, 29, 7, 42, 180, 0, 7, 5, 46, 104, 162, 0, 55, 28, 154, 0, 39, 29, 7, 112, 42]
abbrev dktX1_isSpelled_0 : List UInt8 := dkwX1_isSpelled_0 ++ dktX1_isSpelled_1
theorem dksX1_isSpelled_0 : cX1_isSpelled.data.toList.drop 0 = dktX1_isSpelled_0 := by decide +kernel
theorem dksX1_isSpelled_1 : cX1_isSpelled.data.toList.drop 24 = dktX1_isSpelled_1 := dk_seg dksX1_isSpelled_0 24 rfl rfl
theorem dksX1_isSpelled_2 : cX1_isSpelled.data.toList.drop 46 = dktX1_isSpelled_2 := dk_seg dksX1_isSpelled_1 22 rfl rfl
theorem dX1_isSpelled_0 : decode cX1_isSpelled 0 = .ok (.iconst 0, 1) := dk_3 (dk_at dksX1_isSpelled_0 0 rfl rfl)
theorem dX1_isSpelled_1 : decode cX1_isSpelled 1 = .ok (.istore_n 2, 1) := dk_61 (dk_at dksX1_isSpelled_0 1 rfl rfl)
theorem dX1_isSpelled_2 : decode cX1_isSpelled 2 = .ok (.iconst 0, 1) := dk_3 (dk_at dksX1_isSpelled_0 2 rfl rfl)
theorem dX1_isSpelled_3 : decode cX1_isSpelled 3 = .ok (.istore_n 3, 1) := dk_62 (dk_at dksX1_isSpelled_0 3 rfl rfl)
theorem dX1_isSpelled_4 : decode cX1_isSpelled 4 = .ok (.iload_n 3, 1) := dk_29 (dk_at dksX1_isSpelled_0 4 rfl rfl)
theorem dX1_isSpelled_5 : decode cX1_isSpelled 5 = .ok (.iconst 4, 1) := dk_7 (dk_at dksX1_isSpelled_0 5 rfl rfl)
theorem dX1_isSpelled_6 : decode cX1_isSpelled 6 = .ok (.aload_n 0, 1) := dk_42 (dk_at dksX1_isSpelled_0 6 rfl rfl)
theorem dX1_isSpelled_7 : decode cX1_isSpelled 7 = .ok (.getfield 7, 3) := dk_180 0 7 (dk_at dksX1_isSpelled_0 7 rfl rfl)
theorem dX1_isSpelled_10 : decode cX1_isSpelled 10 = .ok (.iconst 2, 1) := dk_5 (dk_at dksX1_isSpelled_0 10 rfl rfl)
theorem dX1_isSpelled_11 : decode cX1_isSpelled 11 = .ok (.iaload, 1) := dk_46 (dk_at dksX1_isSpelled_0 11 rfl rfl)
theorem dX1_isSpelled_12 : decode cX1_isSpelled 12 = .ok (.imul, 1) := dk_104 (dk_at dksX1_isSpelled_0 12 rfl rfl)
theorem dX1_isSpelled_13 : decode cX1_isSpelled 13 = .ok (.if_icmp .ge 55, 3) := dk_162 0 55 (dk_at dksX1_isSpelled_0 13 rfl rfl)
theorem dX1_isSpelled_16 : decode cX1_isSpelled 16 = .ok (.iload_n 2, 1) := dk_28 (dk_at dksX1_isSpelled_0 16 rfl rfl)
theorem dX1_isSpelled_17 : decode cX1_isSpelled 17 = .ok (.ifCond .ne 39, 3) := dk_154 0 39 (dk_at dksX1_isSpelled_0 17 rfl rfl)
theorem dX1_isSpelled_20 : decode cX1_isSpelled 20 = .ok (.iload_n 3, 1) := dk_29 (dk_at dksX1_isSpelled_0 20 rfl rfl)
theorem dX1_isSpelled_21 : decode cX1_isSpelled 21 = .ok (.iconst 4, 1) := dk_7 (dk_at dksX1_isSpelled_0 21 rfl rfl)
theorem dX1_isSpelled_22 : decode cX1_isSpelled 22 = .ok (.irem, 1) := dk_112 (dk_at dksX1_isSpelled_0 22 rfl rfl)
theorem dX1_isSpelled_23 : decode cX1_isSpelled 23 = .ok (.aload_n 0, 1) := dk_42 (dk_at dksX1_isSpelled_0 23 rfl rfl)
theorem dX1_isSpelled_24 : decode cX1_isSpelled 24 = .ok (.getfield 7, 3) := dk_180 0 7 (dk_at dksX1_isSpelled_1 0 rfl rfl)
theorem dX1_isSpelled_27 : decode cX1_isSpelled 27 = .ok (.iload_n 3, 1) := dk_29 (dk_at dksX1_isSpelled_1 3 rfl rfl)
theorem dX1_isSpelled_28 : decode cX1_isSpelled 28 = .ok (.iconst 4, 1) := dk_7 (dk_at dksX1_isSpelled_1 4 rfl rfl)
theorem dX1_isSpelled_29 : decode cX1_isSpelled 29 = .ok (.idiv, 1) := dk_108 (dk_at dksX1_isSpelled_1 5 rfl rfl)
theorem dX1_isSpelled_30 : decode cX1_isSpelled 30 = .ok (.invokestatic 60, 3) := dk_184 0 60 (dk_at dksX1_isSpelled_1 6 rfl rfl)
theorem dX1_isSpelled_33 : decode cX1_isSpelled 33 = .ok (.if_icmp .ge 27, 3) := dk_162 0 27 (dk_at dksX1_isSpelled_1 9 rfl rfl)
theorem dX1_isSpelled_36 : decode cX1_isSpelled 36 = .ok (.aload_n 0, 1) := dk_42 (dk_at dksX1_isSpelled_1 12 rfl rfl)
theorem dX1_isSpelled_37 : decode cX1_isSpelled 37 = .ok (.getfield 7, 3) := dk_180 0 7 (dk_at dksX1_isSpelled_1 13 rfl rfl)
theorem dX1_isSpelled_40 : decode cX1_isSpelled 40 = .ok (.iload_n 3, 1) := dk_29 (dk_at dksX1_isSpelled_1 16 rfl rfl)
theorem dX1_isSpelled_41 : decode cX1_isSpelled 41 = .ok (.iconst 4, 1) := dk_7 (dk_at dksX1_isSpelled_1 17 rfl rfl)
theorem dX1_isSpelled_42 : decode cX1_isSpelled 42 = .ok (.idiv, 1) := dk_108 (dk_at dksX1_isSpelled_1 18 rfl rfl)
theorem dX1_isSpelled_43 : decode cX1_isSpelled 43 = .ok (.iload_n 3, 1) := dk_29 (dk_at dksX1_isSpelled_1 19 rfl rfl)
theorem dX1_isSpelled_44 : decode cX1_isSpelled 44 = .ok (.iconst 4, 1) := dk_7 (dk_at dksX1_isSpelled_1 20 rfl rfl)
theorem dX1_isSpelled_45 : decode cX1_isSpelled 45 = .ok (.irem, 1) := dk_112 (dk_at dksX1_isSpelled_1 21 rfl rfl)
theorem dX1_isSpelled_46 : decode cX1_isSpelled 46 = .ok (.invokestatic 64, 3) := dk_184 0 64 (dk_at dksX1_isSpelled_2 0 rfl rfl)
theorem dX1_isSpelled_49 : decode cX1_isSpelled 49 = .ok (.invokestatic 52, 3) := dk_184 0 52 (dk_at dksX1_isSpelled_2 3 rfl rfl)
theorem dX1_isSpelled_52 : decode cX1_isSpelled 52 = .ok (.iload_n 1, 1) := dk_27 (dk_at dksX1_isSpelled_2 6 rfl rfl)
theorem dX1_isSpelled_53 : decode cX1_isSpelled 53 = .ok (.if_icmp .ne 7, 3) := dk_160 0 7 (dk_at dksX1_isSpelled_2 7 rfl rfl)
theorem dX1_isSpelled_56 : decode cX1_isSpelled 56 = .ok (.iconst 1, 1) := dk_4 (dk_at dksX1_isSpelled_2 10 rfl rfl)
theorem dX1_isSpelled_57 : decode cX1_isSpelled 57 = .ok (.goto 4, 3) := dk_167 0 4 (dk_at dksX1_isSpelled_2 11 rfl rfl)
theorem dX1_isSpelled_60 : decode cX1_isSpelled 60 = .ok (.iconst 0, 1) := dk_3 (dk_at dksX1_isSpelled_2 14 rfl rfl)
theorem dX1_isSpelled_61 : decode cX1_isSpelled 61 = .ok (.istore_n 2, 1) := dk_61 (dk_at dksX1_isSpelled_2 15 rfl rfl)
theorem dX1_isSpelled_62 : decode cX1_isSpelled 62 = .ok (.iinc 3 1, 3) := dk_132 3 1 (dk_at dksX1_isSpelled_2 16 rfl rfl)
theorem dX1_isSpelled_65 : decode cX1_isSpelled 65 = .ok (.goto (-61), 3) := dk_167 255 195 (dk_at dksX1_isSpelled_2 19 rfl rfl)
theorem dX1_isSpelled_68 : decode cX1_isSpelled 68 = .ok (.iload_n 2, 1) := dk_28 (dk_at dksX1_isSpelled_2 22 rfl rfl)
theorem dX1_isSpelled_69 : decode cX1_isSpelled 69 = .ok (.ireturn, 1) := dk_172 (dk_at dksX1_isSpelled_2 23 rfl rfl)
abbrev cX1_dropsEdge : ByteArray := prog_14_method_62_code
def yX1_dropsEdge : MethodName := ⟨RX1, "dropsEdge", "(I)V"⟩
def dkwX1_dropsEdge_8 : List UInt8 := [3, 96, 79, 132, 2, 1, 167, 255, 165, 42, 180, 0, 7, 4, 92, 46, 4, 100, 79, 177]
abbrev dktX1_dropsEdge_8 : List UInt8 := dkwX1_dropsEdge_8 ++ []
def dkwX1_dropsEdge_7 : List UInt8 := [184, 0, 60, 162, 0, 21, 42, 180, 0, 7, 29, 46, 184, 0, 52, 27, 164, 0, 8, 21, 4, 167, 0, 4]
abbrev dktX1_dropsEdge_7 : List UInt8 := dkwX1_dropsEdge_7 ++ dktX1_dropsEdge_8
def dkwX1_dropsEdge_6 : List UInt8 := [167, 0, 4, 2, 54, 4, 42, 180, 0, 7, 29, 92, 46, 28, 7, 112, 42, 180, 0, 7, 28, 7, 108]
abbrev dktX1_dropsEdge_6 : List UInt8 := dkwX1_dropsEdge_6 ++ dktX1_dropsEdge_7
def dkwX1_dropsEdge_5 : List UInt8 := [28, 7, 108, 104, 96, 5, 96, 28, 7, 112, 96, 62, 42, 180, 0, 7, 29, 46, 156, 0, 7, 4]
abbrev dktX1_dropsEdge_5 : List UInt8 := dkwX1_dropsEdge_5 ++ dktX1_dropsEdge_6
def dkwX1_dropsEdge_4 : List UInt8 := [132, 2, 1, 167, 255, 193, 3, 61, 28, 7, 42, 180, 0, 7, 5, 46, 104, 162, 0, 85, 16, 21, 16, 6]
abbrev dktX1_dropsEdge_4 : List UInt8 := dkwX1_dropsEdge_4 ++ dktX1_dropsEdge_5
def dkwX1_dropsEdge_3 : List UInt8 := [28, 16, 6, 112, 27, 162, 0, 15, 42, 180, 0, 7, 16, 45, 28, 96, 46, 167, 0, 4, 29, 79]
abbrev dktX1_dropsEdge_3 : List UInt8 := dkwX1_dropsEdge_3 ++ dktX1_dropsEdge_4
def dkwX1_dropsEdge_2 : List UInt8 := [42, 180, 0, 7, 16, 45, 28, 96, 4, 96, 46, 167, 0, 4, 3, 62, 42, 180, 0, 7, 16, 45, 28, 96]
abbrev dktX1_dropsEdge_2 : List UInt8 := dkwX1_dropsEdge_2 ++ dktX1_dropsEdge_3
def dkwX1_dropsEdge_1 : List UInt8 := [46, 79, 132, 2, 1, 167, 255, 233, 3, 61, 28, 16, 18, 162, 0, 63, 28, 16, 6, 112, 8, 162, 0, 17]
abbrev dktX1_dropsEdge_1 : List UInt8 := dkwX1_dropsEdge_1 ++ dktX1_dropsEdge_2
def dkwX1_dropsEdge_0 : List UInt8 := [6, 6, 27, 104, 96, 61, 28, 16, 18, 162, 0, 23, 42, 180, 0, 7, 28, 42, 180, 0, 7, 28, 6, 96]
abbrev dktX1_dropsEdge_0 : List UInt8 := dkwX1_dropsEdge_0 ++ dktX1_dropsEdge_1
theorem dksX1_dropsEdge_0 : cX1_dropsEdge.data.toList.drop 0 = dktX1_dropsEdge_0 := by decide +kernel
theorem dksX1_dropsEdge_1 : cX1_dropsEdge.data.toList.drop 24 = dktX1_dropsEdge_1 := dk_seg dksX1_dropsEdge_0 24 rfl rfl
theorem dksX1_dropsEdge_2 : cX1_dropsEdge.data.toList.drop 48 = dktX1_dropsEdge_2 := dk_seg dksX1_dropsEdge_1 24 rfl rfl
theorem dksX1_dropsEdge_3 : cX1_dropsEdge.data.toList.drop 72 = dktX1_dropsEdge_3 := dk_seg dksX1_dropsEdge_2 24 rfl rfl
theorem dksX1_dropsEdge_4 : cX1_dropsEdge.data.toList.drop 94 = dktX1_dropsEdge_4 := dk_seg dksX1_dropsEdge_3 22 rfl rfl
theorem dksX1_dropsEdge_5 : cX1_dropsEdge.data.toList.drop 118 = dktX1_dropsEdge_5 := dk_seg dksX1_dropsEdge_4 24 rfl rfl
theorem dksX1_dropsEdge_6 : cX1_dropsEdge.data.toList.drop 140 = dktX1_dropsEdge_6 := dk_seg dksX1_dropsEdge_5 22 rfl rfl
theorem dksX1_dropsEdge_7 : cX1_dropsEdge.data.toList.drop 163 = dktX1_dropsEdge_7 := dk_seg dksX1_dropsEdge_6 23 rfl rfl
theorem dksX1_dropsEdge_8 : cX1_dropsEdge.data.toList.drop 187 = dktX1_dropsEdge_8 := dk_seg dksX1_dropsEdge_7 24 rfl rfl
theorem dX1_dropsEdge_0 : decode cX1_dropsEdge 0 = .ok (.iconst 3, 1) := dk_6 (dk_at dksX1_dropsEdge_0 0 rfl rfl)
theorem dX1_dropsEdge_1 : decode cX1_dropsEdge 1 = .ok (.iconst 3, 1) := dk_6 (dk_at dksX1_dropsEdge_0 1 rfl rfl)
theorem dX1_dropsEdge_2 : decode cX1_dropsEdge 2 = .ok (.iload_n 1, 1) := dk_27 (dk_at dksX1_dropsEdge_0 2 rfl rfl)
theorem dX1_dropsEdge_3 : decode cX1_dropsEdge 3 = .ok (.imul, 1) := dk_104 (dk_at dksX1_dropsEdge_0 3 rfl rfl)
theorem dX1_dropsEdge_4 : decode cX1_dropsEdge 4 = .ok (.iadd, 1) := dk_96 (dk_at dksX1_dropsEdge_0 4 rfl rfl)
theorem dX1_dropsEdge_5 : decode cX1_dropsEdge 5 = .ok (.istore_n 2, 1) := dk_61 (dk_at dksX1_dropsEdge_0 5 rfl rfl)
theorem dX1_dropsEdge_6 : decode cX1_dropsEdge 6 = .ok (.iload_n 2, 1) := dk_28 (dk_at dksX1_dropsEdge_0 6 rfl rfl)
theorem dX1_dropsEdge_7 : decode cX1_dropsEdge 7 = .ok (.bipush 18, 2) := dk_16 18 (dk_at dksX1_dropsEdge_0 7 rfl rfl)
theorem dX1_dropsEdge_9 : decode cX1_dropsEdge 9 = .ok (.if_icmp .ge 23, 3) := dk_162 0 23 (dk_at dksX1_dropsEdge_0 9 rfl rfl)
theorem dX1_dropsEdge_12 : decode cX1_dropsEdge 12 = .ok (.aload_n 0, 1) := dk_42 (dk_at dksX1_dropsEdge_0 12 rfl rfl)
theorem dX1_dropsEdge_13 : decode cX1_dropsEdge 13 = .ok (.getfield 7, 3) := dk_180 0 7 (dk_at dksX1_dropsEdge_0 13 rfl rfl)
theorem dX1_dropsEdge_16 : decode cX1_dropsEdge 16 = .ok (.iload_n 2, 1) := dk_28 (dk_at dksX1_dropsEdge_0 16 rfl rfl)
theorem dX1_dropsEdge_17 : decode cX1_dropsEdge 17 = .ok (.aload_n 0, 1) := dk_42 (dk_at dksX1_dropsEdge_0 17 rfl rfl)
theorem dX1_dropsEdge_18 : decode cX1_dropsEdge 18 = .ok (.getfield 7, 3) := dk_180 0 7 (dk_at dksX1_dropsEdge_0 18 rfl rfl)
theorem dX1_dropsEdge_21 : decode cX1_dropsEdge 21 = .ok (.iload_n 2, 1) := dk_28 (dk_at dksX1_dropsEdge_0 21 rfl rfl)
theorem dX1_dropsEdge_22 : decode cX1_dropsEdge 22 = .ok (.iconst 3, 1) := dk_6 (dk_at dksX1_dropsEdge_0 22 rfl rfl)
theorem dX1_dropsEdge_23 : decode cX1_dropsEdge 23 = .ok (.iadd, 1) := dk_96 (dk_at dksX1_dropsEdge_0 23 rfl rfl)
theorem dX1_dropsEdge_24 : decode cX1_dropsEdge 24 = .ok (.iaload, 1) := dk_46 (dk_at dksX1_dropsEdge_1 0 rfl rfl)
theorem dX1_dropsEdge_25 : decode cX1_dropsEdge 25 = .ok (.iastore, 1) := dk_79 (dk_at dksX1_dropsEdge_1 1 rfl rfl)
theorem dX1_dropsEdge_26 : decode cX1_dropsEdge 26 = .ok (.iinc 2 1, 3) := dk_132 2 1 (dk_at dksX1_dropsEdge_1 2 rfl rfl)
theorem dX1_dropsEdge_29 : decode cX1_dropsEdge 29 = .ok (.goto (-23), 3) := dk_167 255 233 (dk_at dksX1_dropsEdge_1 5 rfl rfl)
theorem dX1_dropsEdge_32 : decode cX1_dropsEdge 32 = .ok (.iconst 0, 1) := dk_3 (dk_at dksX1_dropsEdge_1 8 rfl rfl)
theorem dX1_dropsEdge_33 : decode cX1_dropsEdge 33 = .ok (.istore_n 2, 1) := dk_61 (dk_at dksX1_dropsEdge_1 9 rfl rfl)
theorem dX1_dropsEdge_34 : decode cX1_dropsEdge 34 = .ok (.iload_n 2, 1) := dk_28 (dk_at dksX1_dropsEdge_1 10 rfl rfl)
theorem dX1_dropsEdge_35 : decode cX1_dropsEdge 35 = .ok (.bipush 18, 2) := dk_16 18 (dk_at dksX1_dropsEdge_1 11 rfl rfl)
theorem dX1_dropsEdge_37 : decode cX1_dropsEdge 37 = .ok (.if_icmp .ge 63, 3) := dk_162 0 63 (dk_at dksX1_dropsEdge_1 13 rfl rfl)
theorem dX1_dropsEdge_40 : decode cX1_dropsEdge 40 = .ok (.iload_n 2, 1) := dk_28 (dk_at dksX1_dropsEdge_1 16 rfl rfl)
theorem dX1_dropsEdge_41 : decode cX1_dropsEdge 41 = .ok (.bipush 6, 2) := dk_16 6 (dk_at dksX1_dropsEdge_1 17 rfl rfl)
theorem dX1_dropsEdge_43 : decode cX1_dropsEdge 43 = .ok (.irem, 1) := dk_112 (dk_at dksX1_dropsEdge_1 19 rfl rfl)
theorem dX1_dropsEdge_44 : decode cX1_dropsEdge 44 = .ok (.iconst 5, 1) := dk_8 (dk_at dksX1_dropsEdge_1 20 rfl rfl)
theorem dX1_dropsEdge_45 : decode cX1_dropsEdge 45 = .ok (.if_icmp .ge 17, 3) := dk_162 0 17 (dk_at dksX1_dropsEdge_1 21 rfl rfl)
theorem dX1_dropsEdge_48 : decode cX1_dropsEdge 48 = .ok (.aload_n 0, 1) := dk_42 (dk_at dksX1_dropsEdge_2 0 rfl rfl)
theorem dX1_dropsEdge_49 : decode cX1_dropsEdge 49 = .ok (.getfield 7, 3) := dk_180 0 7 (dk_at dksX1_dropsEdge_2 1 rfl rfl)
theorem dX1_dropsEdge_52 : decode cX1_dropsEdge 52 = .ok (.bipush 45, 2) := dk_16 45 (dk_at dksX1_dropsEdge_2 4 rfl rfl)
theorem dX1_dropsEdge_54 : decode cX1_dropsEdge 54 = .ok (.iload_n 2, 1) := dk_28 (dk_at dksX1_dropsEdge_2 6 rfl rfl)
theorem dX1_dropsEdge_55 : decode cX1_dropsEdge 55 = .ok (.iadd, 1) := dk_96 (dk_at dksX1_dropsEdge_2 7 rfl rfl)
theorem dX1_dropsEdge_56 : decode cX1_dropsEdge 56 = .ok (.iconst 1, 1) := dk_4 (dk_at dksX1_dropsEdge_2 8 rfl rfl)
theorem dX1_dropsEdge_57 : decode cX1_dropsEdge 57 = .ok (.iadd, 1) := dk_96 (dk_at dksX1_dropsEdge_2 9 rfl rfl)
theorem dX1_dropsEdge_58 : decode cX1_dropsEdge 58 = .ok (.iaload, 1) := dk_46 (dk_at dksX1_dropsEdge_2 10 rfl rfl)
theorem dX1_dropsEdge_59 : decode cX1_dropsEdge 59 = .ok (.goto 4, 3) := dk_167 0 4 (dk_at dksX1_dropsEdge_2 11 rfl rfl)
theorem dX1_dropsEdge_62 : decode cX1_dropsEdge 62 = .ok (.iconst 0, 1) := dk_3 (dk_at dksX1_dropsEdge_2 14 rfl rfl)
theorem dX1_dropsEdge_63 : decode cX1_dropsEdge 63 = .ok (.istore_n 3, 1) := dk_62 (dk_at dksX1_dropsEdge_2 15 rfl rfl)
theorem dX1_dropsEdge_64 : decode cX1_dropsEdge 64 = .ok (.aload_n 0, 1) := dk_42 (dk_at dksX1_dropsEdge_2 16 rfl rfl)
theorem dX1_dropsEdge_65 : decode cX1_dropsEdge 65 = .ok (.getfield 7, 3) := dk_180 0 7 (dk_at dksX1_dropsEdge_2 17 rfl rfl)
theorem dX1_dropsEdge_68 : decode cX1_dropsEdge 68 = .ok (.bipush 45, 2) := dk_16 45 (dk_at dksX1_dropsEdge_2 20 rfl rfl)
theorem dX1_dropsEdge_70 : decode cX1_dropsEdge 70 = .ok (.iload_n 2, 1) := dk_28 (dk_at dksX1_dropsEdge_2 22 rfl rfl)
theorem dX1_dropsEdge_71 : decode cX1_dropsEdge 71 = .ok (.iadd, 1) := dk_96 (dk_at dksX1_dropsEdge_2 23 rfl rfl)
theorem dX1_dropsEdge_72 : decode cX1_dropsEdge 72 = .ok (.iload_n 2, 1) := dk_28 (dk_at dksX1_dropsEdge_3 0 rfl rfl)
theorem dX1_dropsEdge_73 : decode cX1_dropsEdge 73 = .ok (.bipush 6, 2) := dk_16 6 (dk_at dksX1_dropsEdge_3 1 rfl rfl)
theorem dX1_dropsEdge_75 : decode cX1_dropsEdge 75 = .ok (.irem, 1) := dk_112 (dk_at dksX1_dropsEdge_3 3 rfl rfl)
theorem dX1_dropsEdge_76 : decode cX1_dropsEdge 76 = .ok (.iload_n 1, 1) := dk_27 (dk_at dksX1_dropsEdge_3 4 rfl rfl)
theorem dX1_dropsEdge_77 : decode cX1_dropsEdge 77 = .ok (.if_icmp .ge 15, 3) := dk_162 0 15 (dk_at dksX1_dropsEdge_3 5 rfl rfl)
theorem dX1_dropsEdge_80 : decode cX1_dropsEdge 80 = .ok (.aload_n 0, 1) := dk_42 (dk_at dksX1_dropsEdge_3 8 rfl rfl)
theorem dX1_dropsEdge_81 : decode cX1_dropsEdge 81 = .ok (.getfield 7, 3) := dk_180 0 7 (dk_at dksX1_dropsEdge_3 9 rfl rfl)
theorem dX1_dropsEdge_84 : decode cX1_dropsEdge 84 = .ok (.bipush 45, 2) := dk_16 45 (dk_at dksX1_dropsEdge_3 12 rfl rfl)
theorem dX1_dropsEdge_86 : decode cX1_dropsEdge 86 = .ok (.iload_n 2, 1) := dk_28 (dk_at dksX1_dropsEdge_3 14 rfl rfl)
theorem dX1_dropsEdge_87 : decode cX1_dropsEdge 87 = .ok (.iadd, 1) := dk_96 (dk_at dksX1_dropsEdge_3 15 rfl rfl)
theorem dX1_dropsEdge_88 : decode cX1_dropsEdge 88 = .ok (.iaload, 1) := dk_46 (dk_at dksX1_dropsEdge_3 16 rfl rfl)
theorem dX1_dropsEdge_89 : decode cX1_dropsEdge 89 = .ok (.goto 4, 3) := dk_167 0 4 (dk_at dksX1_dropsEdge_3 17 rfl rfl)
theorem dX1_dropsEdge_92 : decode cX1_dropsEdge 92 = .ok (.iload_n 3, 1) := dk_29 (dk_at dksX1_dropsEdge_3 20 rfl rfl)
theorem dX1_dropsEdge_93 : decode cX1_dropsEdge 93 = .ok (.iastore, 1) := dk_79 (dk_at dksX1_dropsEdge_3 21 rfl rfl)
theorem dX1_dropsEdge_94 : decode cX1_dropsEdge 94 = .ok (.iinc 2 1, 3) := dk_132 2 1 (dk_at dksX1_dropsEdge_4 0 rfl rfl)
theorem dX1_dropsEdge_97 : decode cX1_dropsEdge 97 = .ok (.goto (-63), 3) := dk_167 255 193 (dk_at dksX1_dropsEdge_4 3 rfl rfl)
theorem dX1_dropsEdge_100 : decode cX1_dropsEdge 100 = .ok (.iconst 0, 1) := dk_3 (dk_at dksX1_dropsEdge_4 6 rfl rfl)
theorem dX1_dropsEdge_101 : decode cX1_dropsEdge 101 = .ok (.istore_n 2, 1) := dk_61 (dk_at dksX1_dropsEdge_4 7 rfl rfl)
theorem dX1_dropsEdge_102 : decode cX1_dropsEdge 102 = .ok (.iload_n 2, 1) := dk_28 (dk_at dksX1_dropsEdge_4 8 rfl rfl)
theorem dX1_dropsEdge_103 : decode cX1_dropsEdge 103 = .ok (.iconst 4, 1) := dk_7 (dk_at dksX1_dropsEdge_4 9 rfl rfl)
theorem dX1_dropsEdge_104 : decode cX1_dropsEdge 104 = .ok (.aload_n 0, 1) := dk_42 (dk_at dksX1_dropsEdge_4 10 rfl rfl)
theorem dX1_dropsEdge_105 : decode cX1_dropsEdge 105 = .ok (.getfield 7, 3) := dk_180 0 7 (dk_at dksX1_dropsEdge_4 11 rfl rfl)
theorem dX1_dropsEdge_108 : decode cX1_dropsEdge 108 = .ok (.iconst 2, 1) := dk_5 (dk_at dksX1_dropsEdge_4 14 rfl rfl)
theorem dX1_dropsEdge_109 : decode cX1_dropsEdge 109 = .ok (.iaload, 1) := dk_46 (dk_at dksX1_dropsEdge_4 15 rfl rfl)
theorem dX1_dropsEdge_110 : decode cX1_dropsEdge 110 = .ok (.imul, 1) := dk_104 (dk_at dksX1_dropsEdge_4 16 rfl rfl)
theorem dX1_dropsEdge_111 : decode cX1_dropsEdge 111 = .ok (.if_icmp .ge 85, 3) := dk_162 0 85 (dk_at dksX1_dropsEdge_4 17 rfl rfl)
theorem dX1_dropsEdge_114 : decode cX1_dropsEdge 114 = .ok (.bipush 21, 2) := dk_16 21 (dk_at dksX1_dropsEdge_4 20 rfl rfl)
theorem dX1_dropsEdge_116 : decode cX1_dropsEdge 116 = .ok (.bipush 6, 2) := dk_16 6 (dk_at dksX1_dropsEdge_4 22 rfl rfl)
theorem dX1_dropsEdge_118 : decode cX1_dropsEdge 118 = .ok (.iload_n 2, 1) := dk_28 (dk_at dksX1_dropsEdge_5 0 rfl rfl)
theorem dX1_dropsEdge_119 : decode cX1_dropsEdge 119 = .ok (.iconst 4, 1) := dk_7 (dk_at dksX1_dropsEdge_5 1 rfl rfl)
theorem dX1_dropsEdge_120 : decode cX1_dropsEdge 120 = .ok (.idiv, 1) := dk_108 (dk_at dksX1_dropsEdge_5 2 rfl rfl)
theorem dX1_dropsEdge_121 : decode cX1_dropsEdge 121 = .ok (.imul, 1) := dk_104 (dk_at dksX1_dropsEdge_5 3 rfl rfl)
theorem dX1_dropsEdge_122 : decode cX1_dropsEdge 122 = .ok (.iadd, 1) := dk_96 (dk_at dksX1_dropsEdge_5 4 rfl rfl)
theorem dX1_dropsEdge_123 : decode cX1_dropsEdge 123 = .ok (.iconst 2, 1) := dk_5 (dk_at dksX1_dropsEdge_5 5 rfl rfl)
theorem dX1_dropsEdge_124 : decode cX1_dropsEdge 124 = .ok (.iadd, 1) := dk_96 (dk_at dksX1_dropsEdge_5 6 rfl rfl)
theorem dX1_dropsEdge_125 : decode cX1_dropsEdge 125 = .ok (.iload_n 2, 1) := dk_28 (dk_at dksX1_dropsEdge_5 7 rfl rfl)
theorem dX1_dropsEdge_126 : decode cX1_dropsEdge 126 = .ok (.iconst 4, 1) := dk_7 (dk_at dksX1_dropsEdge_5 8 rfl rfl)
theorem dX1_dropsEdge_127 : decode cX1_dropsEdge 127 = .ok (.irem, 1) := dk_112 (dk_at dksX1_dropsEdge_5 9 rfl rfl)
theorem dX1_dropsEdge_128 : decode cX1_dropsEdge 128 = .ok (.iadd, 1) := dk_96 (dk_at dksX1_dropsEdge_5 10 rfl rfl)
theorem dX1_dropsEdge_129 : decode cX1_dropsEdge 129 = .ok (.istore_n 3, 1) := dk_62 (dk_at dksX1_dropsEdge_5 11 rfl rfl)
theorem dX1_dropsEdge_130 : decode cX1_dropsEdge 130 = .ok (.aload_n 0, 1) := dk_42 (dk_at dksX1_dropsEdge_5 12 rfl rfl)
theorem dX1_dropsEdge_131 : decode cX1_dropsEdge 131 = .ok (.getfield 7, 3) := dk_180 0 7 (dk_at dksX1_dropsEdge_5 13 rfl rfl)
theorem dX1_dropsEdge_134 : decode cX1_dropsEdge 134 = .ok (.iload_n 3, 1) := dk_29 (dk_at dksX1_dropsEdge_5 16 rfl rfl)
theorem dX1_dropsEdge_135 : decode cX1_dropsEdge 135 = .ok (.iaload, 1) := dk_46 (dk_at dksX1_dropsEdge_5 17 rfl rfl)
theorem dX1_dropsEdge_136 : decode cX1_dropsEdge 136 = .ok (.ifCond .ge 7, 3) := dk_156 0 7 (dk_at dksX1_dropsEdge_5 18 rfl rfl)
theorem dX1_dropsEdge_139 : decode cX1_dropsEdge 139 = .ok (.iconst 1, 1) := dk_4 (dk_at dksX1_dropsEdge_5 21 rfl rfl)
theorem dX1_dropsEdge_140 : decode cX1_dropsEdge 140 = .ok (.goto 4, 3) := dk_167 0 4 (dk_at dksX1_dropsEdge_6 0 rfl rfl)
theorem dX1_dropsEdge_143 : decode cX1_dropsEdge 143 = .ok (.iconst (-1), 1) := dk_2 (dk_at dksX1_dropsEdge_6 3 rfl rfl)
theorem dX1_dropsEdge_144 : decode cX1_dropsEdge 144 = .ok (.istore 4, 2) := dk_54 4 (dk_at dksX1_dropsEdge_6 4 rfl rfl)
theorem dX1_dropsEdge_146 : decode cX1_dropsEdge 146 = .ok (.aload_n 0, 1) := dk_42 (dk_at dksX1_dropsEdge_6 6 rfl rfl)
theorem dX1_dropsEdge_147 : decode cX1_dropsEdge 147 = .ok (.getfield 7, 3) := dk_180 0 7 (dk_at dksX1_dropsEdge_6 7 rfl rfl)
theorem dX1_dropsEdge_150 : decode cX1_dropsEdge 150 = .ok (.iload_n 3, 1) := dk_29 (dk_at dksX1_dropsEdge_6 10 rfl rfl)
theorem dX1_dropsEdge_151 : decode cX1_dropsEdge 151 = .ok (.dup2, 1) := dk_92 (dk_at dksX1_dropsEdge_6 11 rfl rfl)
theorem dX1_dropsEdge_152 : decode cX1_dropsEdge 152 = .ok (.iaload, 1) := dk_46 (dk_at dksX1_dropsEdge_6 12 rfl rfl)
theorem dX1_dropsEdge_153 : decode cX1_dropsEdge 153 = .ok (.iload_n 2, 1) := dk_28 (dk_at dksX1_dropsEdge_6 13 rfl rfl)
theorem dX1_dropsEdge_154 : decode cX1_dropsEdge 154 = .ok (.iconst 4, 1) := dk_7 (dk_at dksX1_dropsEdge_6 14 rfl rfl)
theorem dX1_dropsEdge_155 : decode cX1_dropsEdge 155 = .ok (.irem, 1) := dk_112 (dk_at dksX1_dropsEdge_6 15 rfl rfl)
theorem dX1_dropsEdge_156 : decode cX1_dropsEdge 156 = .ok (.aload_n 0, 1) := dk_42 (dk_at dksX1_dropsEdge_6 16 rfl rfl)
theorem dX1_dropsEdge_157 : decode cX1_dropsEdge 157 = .ok (.getfield 7, 3) := dk_180 0 7 (dk_at dksX1_dropsEdge_6 17 rfl rfl)
theorem dX1_dropsEdge_160 : decode cX1_dropsEdge 160 = .ok (.iload_n 2, 1) := dk_28 (dk_at dksX1_dropsEdge_6 20 rfl rfl)
theorem dX1_dropsEdge_161 : decode cX1_dropsEdge 161 = .ok (.iconst 4, 1) := dk_7 (dk_at dksX1_dropsEdge_6 21 rfl rfl)
theorem dX1_dropsEdge_162 : decode cX1_dropsEdge 162 = .ok (.idiv, 1) := dk_108 (dk_at dksX1_dropsEdge_6 22 rfl rfl)
theorem dX1_dropsEdge_163 : decode cX1_dropsEdge 163 = .ok (.invokestatic 60, 3) := dk_184 0 60 (dk_at dksX1_dropsEdge_7 0 rfl rfl)
theorem dX1_dropsEdge_166 : decode cX1_dropsEdge 166 = .ok (.if_icmp .ge 21, 3) := dk_162 0 21 (dk_at dksX1_dropsEdge_7 3 rfl rfl)
theorem dX1_dropsEdge_169 : decode cX1_dropsEdge 169 = .ok (.aload_n 0, 1) := dk_42 (dk_at dksX1_dropsEdge_7 6 rfl rfl)
theorem dX1_dropsEdge_170 : decode cX1_dropsEdge 170 = .ok (.getfield 7, 3) := dk_180 0 7 (dk_at dksX1_dropsEdge_7 7 rfl rfl)
theorem dX1_dropsEdge_173 : decode cX1_dropsEdge 173 = .ok (.iload_n 3, 1) := dk_29 (dk_at dksX1_dropsEdge_7 10 rfl rfl)
theorem dX1_dropsEdge_174 : decode cX1_dropsEdge 174 = .ok (.iaload, 1) := dk_46 (dk_at dksX1_dropsEdge_7 11 rfl rfl)
theorem dX1_dropsEdge_175 : decode cX1_dropsEdge 175 = .ok (.invokestatic 52, 3) := dk_184 0 52 (dk_at dksX1_dropsEdge_7 12 rfl rfl)
theorem dX1_dropsEdge_178 : decode cX1_dropsEdge 178 = .ok (.iload_n 1, 1) := dk_27 (dk_at dksX1_dropsEdge_7 15 rfl rfl)
theorem dX1_dropsEdge_179 : decode cX1_dropsEdge 179 = .ok (.if_icmp .le 8, 3) := dk_164 0 8 (dk_at dksX1_dropsEdge_7 16 rfl rfl)
theorem dX1_dropsEdge_182 : decode cX1_dropsEdge 182 = .ok (.iload 4, 2) := dk_21 4 (dk_at dksX1_dropsEdge_7 19 rfl rfl)
theorem dX1_dropsEdge_184 : decode cX1_dropsEdge 184 = .ok (.goto 4, 3) := dk_167 0 4 (dk_at dksX1_dropsEdge_7 21 rfl rfl)
theorem dX1_dropsEdge_187 : decode cX1_dropsEdge 187 = .ok (.iconst 0, 1) := dk_3 (dk_at dksX1_dropsEdge_8 0 rfl rfl)
theorem dX1_dropsEdge_188 : decode cX1_dropsEdge 188 = .ok (.iadd, 1) := dk_96 (dk_at dksX1_dropsEdge_8 1 rfl rfl)
theorem dX1_dropsEdge_189 : decode cX1_dropsEdge 189 = .ok (.iastore, 1) := dk_79 (dk_at dksX1_dropsEdge_8 2 rfl rfl)
theorem dX1_dropsEdge_190 : decode cX1_dropsEdge 190 = .ok (.iinc 2 1, 3) := dk_132 2 1 (dk_at dksX1_dropsEdge_8 3 rfl rfl)
theorem dX1_dropsEdge_193 : decode cX1_dropsEdge 193 = .ok (.goto (-91), 3) := dk_167 255 165 (dk_at dksX1_dropsEdge_8 6 rfl rfl)
theorem dX1_dropsEdge_196 : decode cX1_dropsEdge 196 = .ok (.aload_n 0, 1) := dk_42 (dk_at dksX1_dropsEdge_8 9 rfl rfl)
theorem dX1_dropsEdge_197 : decode cX1_dropsEdge 197 = .ok (.getfield 7, 3) := dk_180 0 7 (dk_at dksX1_dropsEdge_8 10 rfl rfl)
theorem dX1_dropsEdge_200 : decode cX1_dropsEdge 200 = .ok (.iconst 1, 1) := dk_4 (dk_at dksX1_dropsEdge_8 13 rfl rfl)
theorem dX1_dropsEdge_201 : decode cX1_dropsEdge 201 = .ok (.dup2, 1) := dk_92 (dk_at dksX1_dropsEdge_8 14 rfl rfl)
theorem dX1_dropsEdge_202 : decode cX1_dropsEdge 202 = .ok (.iaload, 1) := dk_46 (dk_at dksX1_dropsEdge_8 15 rfl rfl)
theorem dX1_dropsEdge_203 : decode cX1_dropsEdge 203 = .ok (.iconst 1, 1) := dk_4 (dk_at dksX1_dropsEdge_8 16 rfl rfl)
theorem dX1_dropsEdge_204 : decode cX1_dropsEdge 204 = .ok (.isub, 1) := dk_100 (dk_at dksX1_dropsEdge_8 17 rfl rfl)
theorem dX1_dropsEdge_205 : decode cX1_dropsEdge 205 = .ok (.iastore, 1) := dk_79 (dk_at dksX1_dropsEdge_8 18 rfl rfl)
theorem dX1_dropsEdge_206 : decode cX1_dropsEdge 206 = .ok (.return_, 1) := dk_177 (dk_at dksX1_dropsEdge_8 19 rfl rfl)
abbrev cX1_put : ByteArray := prog_14_method_65_code
def yX1_put : MethodName := ⟨RX1, "put", "(III)I"⟩
def dkwX1_put_3 : List UInt8 := [21, 4, 172]
abbrev dktX1_put_3 : List UInt8 := dkwX1_put_3 ++ []
def dkwX1_put_2 : List UInt8 := [27, 104, 96, 28, 96, 46, 54, 4, 42, 180, 0, 7, 16, 45, 16, 6, 27, 104, 96, 28, 96, 29, 79]
abbrev dktX1_put_2 : List UInt8 := dkwX1_put_2 ++ dktX1_put_3
def dkwX1_put_1 : List UInt8 := [20, 1, 15, 184, 0, 150, 154, 0, 6, 18, 218, 172, 42, 182, 0, 252, 42, 180, 0, 7, 16, 45, 16, 6]
abbrev dktX1_put_1 : List UInt8 := dkwX1_put_1 ++ dktX1_put_2
def dkwX1_put_0 : List UInt8 := [42, 27, 182, 1, 10, 153, 0, 26, 42, 4, 28, 182, 0, 247, 153, 0, 17, 29, 133, 20, 1, 13]
abbrev dktX1_put_0 : List UInt8 := dkwX1_put_0 ++ dktX1_put_1
theorem dksX1_put_0 : cX1_put.data.toList.drop 0 = dktX1_put_0 := by decide +kernel
theorem dksX1_put_1 : cX1_put.data.toList.drop 22 = dktX1_put_1 := dk_seg dksX1_put_0 22 rfl rfl
theorem dksX1_put_2 : cX1_put.data.toList.drop 46 = dktX1_put_2 := dk_seg dksX1_put_1 24 rfl rfl
theorem dksX1_put_3 : cX1_put.data.toList.drop 69 = dktX1_put_3 := dk_seg dksX1_put_2 23 rfl rfl
theorem dX1_put_0 : decode cX1_put 0 = .ok (.aload_n 0, 1) := dk_42 (dk_at dksX1_put_0 0 rfl rfl)
theorem dX1_put_1 : decode cX1_put 1 = .ok (.iload_n 1, 1) := dk_27 (dk_at dksX1_put_0 1 rfl rfl)
theorem dX1_put_2 : decode cX1_put 2 = .ok (.invokevirtual 266, 3) := dk_182 1 10 (dk_at dksX1_put_0 2 rfl rfl)
theorem dX1_put_5 : decode cX1_put 5 = .ok (.ifCond .eq 26, 3) := dk_153 0 26 (dk_at dksX1_put_0 5 rfl rfl)
theorem dX1_put_8 : decode cX1_put 8 = .ok (.aload_n 0, 1) := dk_42 (dk_at dksX1_put_0 8 rfl rfl)
theorem dX1_put_9 : decode cX1_put 9 = .ok (.iconst 1, 1) := dk_4 (dk_at dksX1_put_0 9 rfl rfl)
theorem dX1_put_10 : decode cX1_put 10 = .ok (.iload_n 2, 1) := dk_28 (dk_at dksX1_put_0 10 rfl rfl)
theorem dX1_put_11 : decode cX1_put 11 = .ok (.invokevirtual 247, 3) := dk_182 0 247 (dk_at dksX1_put_0 11 rfl rfl)
theorem dX1_put_14 : decode cX1_put 14 = .ok (.ifCond .eq 17, 3) := dk_153 0 17 (dk_at dksX1_put_0 14 rfl rfl)
theorem dX1_put_17 : decode cX1_put 17 = .ok (.iload_n 3, 1) := dk_29 (dk_at dksX1_put_0 17 rfl rfl)
theorem dX1_put_18 : decode cX1_put 18 = .ok (.i2l, 1) := dk_133 (dk_at dksX1_put_0 18 rfl rfl)
theorem dX1_put_19 : decode cX1_put 19 = .ok (.ldc2_w 269, 3) := dk_20 1 13 (dk_at dksX1_put_0 19 rfl rfl)
theorem dX1_put_22 : decode cX1_put 22 = .ok (.ldc2_w 271, 3) := dk_20 1 15 (dk_at dksX1_put_1 0 rfl rfl)
theorem dX1_put_25 : decode cX1_put 25 = .ok (.invokestatic 150, 3) := dk_184 0 150 (dk_at dksX1_put_1 3 rfl rfl)
theorem dX1_put_28 : decode cX1_put 28 = .ok (.ifCond .ne 6, 3) := dk_154 0 6 (dk_at dksX1_put_1 6 rfl rfl)
theorem dX1_put_31 : decode cX1_put 31 = .ok (.ldc 218, 2) := dk_18 218 (dk_at dksX1_put_1 9 rfl rfl)
theorem dX1_put_33 : decode cX1_put 33 = .ok (.ireturn, 1) := dk_172 (dk_at dksX1_put_1 11 rfl rfl)
theorem dX1_put_34 : decode cX1_put 34 = .ok (.aload_n 0, 1) := dk_42 (dk_at dksX1_put_1 12 rfl rfl)
theorem dX1_put_35 : decode cX1_put 35 = .ok (.invokevirtual 252, 3) := dk_182 0 252 (dk_at dksX1_put_1 13 rfl rfl)
theorem dX1_put_38 : decode cX1_put 38 = .ok (.aload_n 0, 1) := dk_42 (dk_at dksX1_put_1 16 rfl rfl)
theorem dX1_put_39 : decode cX1_put 39 = .ok (.getfield 7, 3) := dk_180 0 7 (dk_at dksX1_put_1 17 rfl rfl)
theorem dX1_put_42 : decode cX1_put 42 = .ok (.bipush 45, 2) := dk_16 45 (dk_at dksX1_put_1 20 rfl rfl)
theorem dX1_put_44 : decode cX1_put 44 = .ok (.bipush 6, 2) := dk_16 6 (dk_at dksX1_put_1 22 rfl rfl)
theorem dX1_put_46 : decode cX1_put 46 = .ok (.iload_n 1, 1) := dk_27 (dk_at dksX1_put_2 0 rfl rfl)
theorem dX1_put_47 : decode cX1_put 47 = .ok (.imul, 1) := dk_104 (dk_at dksX1_put_2 1 rfl rfl)
theorem dX1_put_48 : decode cX1_put 48 = .ok (.iadd, 1) := dk_96 (dk_at dksX1_put_2 2 rfl rfl)
theorem dX1_put_49 : decode cX1_put 49 = .ok (.iload_n 2, 1) := dk_28 (dk_at dksX1_put_2 3 rfl rfl)
theorem dX1_put_50 : decode cX1_put 50 = .ok (.iadd, 1) := dk_96 (dk_at dksX1_put_2 4 rfl rfl)
theorem dX1_put_51 : decode cX1_put 51 = .ok (.iaload, 1) := dk_46 (dk_at dksX1_put_2 5 rfl rfl)
theorem dX1_put_52 : decode cX1_put 52 = .ok (.istore 4, 2) := dk_54 4 (dk_at dksX1_put_2 6 rfl rfl)
theorem dX1_put_54 : decode cX1_put 54 = .ok (.aload_n 0, 1) := dk_42 (dk_at dksX1_put_2 8 rfl rfl)
theorem dX1_put_55 : decode cX1_put 55 = .ok (.getfield 7, 3) := dk_180 0 7 (dk_at dksX1_put_2 9 rfl rfl)
theorem dX1_put_58 : decode cX1_put 58 = .ok (.bipush 45, 2) := dk_16 45 (dk_at dksX1_put_2 12 rfl rfl)
theorem dX1_put_60 : decode cX1_put 60 = .ok (.bipush 6, 2) := dk_16 6 (dk_at dksX1_put_2 14 rfl rfl)
theorem dX1_put_62 : decode cX1_put 62 = .ok (.iload_n 1, 1) := dk_27 (dk_at dksX1_put_2 16 rfl rfl)
theorem dX1_put_63 : decode cX1_put 63 = .ok (.imul, 1) := dk_104 (dk_at dksX1_put_2 17 rfl rfl)
theorem dX1_put_64 : decode cX1_put 64 = .ok (.iadd, 1) := dk_96 (dk_at dksX1_put_2 18 rfl rfl)
theorem dX1_put_65 : decode cX1_put 65 = .ok (.iload_n 2, 1) := dk_28 (dk_at dksX1_put_2 19 rfl rfl)
theorem dX1_put_66 : decode cX1_put 66 = .ok (.iadd, 1) := dk_96 (dk_at dksX1_put_2 20 rfl rfl)
theorem dX1_put_67 : decode cX1_put 67 = .ok (.iload_n 3, 1) := dk_29 (dk_at dksX1_put_2 21 rfl rfl)
theorem dX1_put_68 : decode cX1_put 68 = .ok (.iastore, 1) := dk_79 (dk_at dksX1_put_2 22 rfl rfl)
theorem dX1_put_69 : decode cX1_put 69 = .ok (.iload 4, 2) := dk_21 4 (dk_at dksX1_put_3 0 rfl rfl)
theorem dX1_put_71 : decode cX1_put 71 = .ok (.ireturn, 1) := dk_172 (dk_at dksX1_put_3 2 rfl rfl)
abbrev cX1_isChain : ByteArray := prog_14_method_56_code
def yX1_isChain : MethodName := ⟨RX1, "isChain", "(I)Z"⟩
def dkwX1_isChain_1 : List UInt8 := [172]
abbrev dktX1_isChain_1 : List UInt8 := dkwX1_isChain_1 ++ []
def dkwX1_isChain_0 : List UInt8 := [42, 182, 0, 244, 153, 0, 19, 27, 133, 9, 20, 0, 242, 184, 0, 150, 153, 0, 7, 4, 167, 0, 4, 3]
abbrev dktX1_isChain_0 : List UInt8 := dkwX1_isChain_0 ++ dktX1_isChain_1
theorem dksX1_isChain_0 : cX1_isChain.data.toList.drop 0 = dktX1_isChain_0 := by decide +kernel
theorem dksX1_isChain_1 : cX1_isChain.data.toList.drop 24 = dktX1_isChain_1 := dk_seg dksX1_isChain_0 24 rfl rfl
theorem dX1_isChain_0 : decode cX1_isChain 0 = .ok (.aload_n 0, 1) := dk_42 (dk_at dksX1_isChain_0 0 rfl rfl)
theorem dX1_isChain_1 : decode cX1_isChain 1 = .ok (.invokevirtual 244, 3) := dk_182 0 244 (dk_at dksX1_isChain_0 1 rfl rfl)
theorem dX1_isChain_4 : decode cX1_isChain 4 = .ok (.ifCond .eq 19, 3) := dk_153 0 19 (dk_at dksX1_isChain_0 4 rfl rfl)
theorem dX1_isChain_7 : decode cX1_isChain 7 = .ok (.iload_n 1, 1) := dk_27 (dk_at dksX1_isChain_0 7 rfl rfl)
theorem dX1_isChain_8 : decode cX1_isChain 8 = .ok (.i2l, 1) := dk_133 (dk_at dksX1_isChain_0 8 rfl rfl)
theorem dX1_isChain_9 : decode cX1_isChain 9 = .ok (.lconst 0, 1) := dk_9 (dk_at dksX1_isChain_0 9 rfl rfl)
theorem dX1_isChain_10 : decode cX1_isChain 10 = .ok (.ldc2_w 242, 3) := dk_20 0 242 (dk_at dksX1_isChain_0 10 rfl rfl)
theorem dX1_isChain_13 : decode cX1_isChain 13 = .ok (.invokestatic 150, 3) := dk_184 0 150 (dk_at dksX1_isChain_0 13 rfl rfl)
theorem dX1_isChain_16 : decode cX1_isChain 16 = .ok (.ifCond .eq 7, 3) := dk_153 0 7 (dk_at dksX1_isChain_0 16 rfl rfl)
theorem dX1_isChain_19 : decode cX1_isChain 19 = .ok (.iconst 1, 1) := dk_4 (dk_at dksX1_isChain_0 19 rfl rfl)
theorem dX1_isChain_20 : decode cX1_isChain 20 = .ok (.goto 4, 3) := dk_167 0 4 (dk_at dksX1_isChain_0 20 rfl rfl)
theorem dX1_isChain_23 : decode cX1_isChain 23 = .ok (.iconst 0, 1) := dk_3 (dk_at dksX1_isChain_0 23 rfl rfl)
theorem dX1_isChain_24 : decode cX1_isChain 24 = .ok (.ireturn, 1) := dk_172 (dk_at dksX1_isChain_1 0 rfl rfl)
abbrev cX1_bound : ByteArray := prog_14_method_66_code
def yX1_bound : MethodName := ⟨RX1, "bound", "(III)I"⟩
def dkwX1_bound_6 : List UInt8 := [96, 79, 132, 4, 1, 167, 255, 215, 42, 27, 182, 1, 17, 172]
abbrev dktX1_bound_6 : List UInt8 := dkwX1_bound_6 ++ []
def dkwX1_bound_5 : List UInt8 := [180, 0, 7, 16, 45, 16, 6, 27, 104, 96, 21, 4, 96, 92, 46, 29, 42, 21, 4, 28, 182, 0, 71, 104]
abbrev dktX1_bound_5 : List UInt8 := dkwX1_bound_5 ++ dktX1_bound_6
def dkwX1_bound_4 : List UInt8 := [167, 255, 201, 42, 182, 0, 252, 3, 54, 4, 21, 4, 42, 180, 0, 7, 4, 46, 162, 0, 36, 42]
abbrev dktX1_bound_4 : List UInt8 := dkwX1_bound_4 ++ dktX1_bound_5
def dkwX1_bound_3 : List UInt8 := [182, 0, 71, 104, 96, 133, 20, 1, 13, 20, 1, 15, 184, 0, 150, 154, 0, 6, 18, 219, 172, 132, 4, 1]
abbrev dktX1_bound_3 : List UInt8 := dkwX1_bound_3 ++ dktX1_bound_4
def dkwX1_bound_2 : List UInt8 := [162, 0, 50, 42, 180, 0, 7, 16, 45, 16, 6, 27, 104, 96, 21, 4, 96, 46, 29, 42, 21, 4, 28]
abbrev dktX1_bound_2 : List UInt8 := dkwX1_bound_2 ++ dktX1_bound_3
def dkwX1_bound_1 : List UInt8 := [20, 1, 15, 184, 0, 150, 154, 0, 6, 18, 218, 172, 3, 54, 4, 21, 4, 42, 180, 0, 7, 4, 46]
abbrev dktX1_bound_1 : List UInt8 := dkwX1_bound_1 ++ dktX1_bound_2
def dkwX1_bound_0 : List UInt8 := [42, 27, 182, 1, 10, 153, 0, 26, 42, 5, 28, 182, 0, 247, 153, 0, 17, 29, 133, 20, 1, 13]
abbrev dktX1_bound_0 : List UInt8 := dkwX1_bound_0 ++ dktX1_bound_1
theorem dksX1_bound_0 : cX1_bound.data.toList.drop 0 = dktX1_bound_0 := by decide +kernel
theorem dksX1_bound_1 : cX1_bound.data.toList.drop 22 = dktX1_bound_1 := dk_seg dksX1_bound_0 22 rfl rfl
theorem dksX1_bound_2 : cX1_bound.data.toList.drop 45 = dktX1_bound_2 := dk_seg dksX1_bound_1 23 rfl rfl
theorem dksX1_bound_3 : cX1_bound.data.toList.drop 68 = dktX1_bound_3 := dk_seg dksX1_bound_2 23 rfl rfl
theorem dksX1_bound_4 : cX1_bound.data.toList.drop 92 = dktX1_bound_4 := dk_seg dksX1_bound_3 24 rfl rfl
theorem dksX1_bound_5 : cX1_bound.data.toList.drop 114 = dktX1_bound_5 := dk_seg dksX1_bound_4 22 rfl rfl
theorem dksX1_bound_6 : cX1_bound.data.toList.drop 138 = dktX1_bound_6 := dk_seg dksX1_bound_5 24 rfl rfl
theorem dX1_bound_0 : decode cX1_bound 0 = .ok (.aload_n 0, 1) := dk_42 (dk_at dksX1_bound_0 0 rfl rfl)
theorem dX1_bound_1 : decode cX1_bound 1 = .ok (.iload_n 1, 1) := dk_27 (dk_at dksX1_bound_0 1 rfl rfl)
theorem dX1_bound_2 : decode cX1_bound 2 = .ok (.invokevirtual 266, 3) := dk_182 1 10 (dk_at dksX1_bound_0 2 rfl rfl)
theorem dX1_bound_5 : decode cX1_bound 5 = .ok (.ifCond .eq 26, 3) := dk_153 0 26 (dk_at dksX1_bound_0 5 rfl rfl)
theorem dX1_bound_8 : decode cX1_bound 8 = .ok (.aload_n 0, 1) := dk_42 (dk_at dksX1_bound_0 8 rfl rfl)
theorem dX1_bound_9 : decode cX1_bound 9 = .ok (.iconst 2, 1) := dk_5 (dk_at dksX1_bound_0 9 rfl rfl)
theorem dX1_bound_10 : decode cX1_bound 10 = .ok (.iload_n 2, 1) := dk_28 (dk_at dksX1_bound_0 10 rfl rfl)
theorem dX1_bound_11 : decode cX1_bound 11 = .ok (.invokevirtual 247, 3) := dk_182 0 247 (dk_at dksX1_bound_0 11 rfl rfl)
theorem dX1_bound_14 : decode cX1_bound 14 = .ok (.ifCond .eq 17, 3) := dk_153 0 17 (dk_at dksX1_bound_0 14 rfl rfl)
theorem dX1_bound_17 : decode cX1_bound 17 = .ok (.iload_n 3, 1) := dk_29 (dk_at dksX1_bound_0 17 rfl rfl)
theorem dX1_bound_18 : decode cX1_bound 18 = .ok (.i2l, 1) := dk_133 (dk_at dksX1_bound_0 18 rfl rfl)
theorem dX1_bound_19 : decode cX1_bound 19 = .ok (.ldc2_w 269, 3) := dk_20 1 13 (dk_at dksX1_bound_0 19 rfl rfl)
theorem dX1_bound_22 : decode cX1_bound 22 = .ok (.ldc2_w 271, 3) := dk_20 1 15 (dk_at dksX1_bound_1 0 rfl rfl)
theorem dX1_bound_25 : decode cX1_bound 25 = .ok (.invokestatic 150, 3) := dk_184 0 150 (dk_at dksX1_bound_1 3 rfl rfl)
theorem dX1_bound_28 : decode cX1_bound 28 = .ok (.ifCond .ne 6, 3) := dk_154 0 6 (dk_at dksX1_bound_1 6 rfl rfl)
theorem dX1_bound_31 : decode cX1_bound 31 = .ok (.ldc 218, 2) := dk_18 218 (dk_at dksX1_bound_1 9 rfl rfl)
theorem dX1_bound_33 : decode cX1_bound 33 = .ok (.ireturn, 1) := dk_172 (dk_at dksX1_bound_1 11 rfl rfl)
theorem dX1_bound_34 : decode cX1_bound 34 = .ok (.iconst 0, 1) := dk_3 (dk_at dksX1_bound_1 12 rfl rfl)
theorem dX1_bound_35 : decode cX1_bound 35 = .ok (.istore 4, 2) := dk_54 4 (dk_at dksX1_bound_1 13 rfl rfl)
theorem dX1_bound_37 : decode cX1_bound 37 = .ok (.iload 4, 2) := dk_21 4 (dk_at dksX1_bound_1 15 rfl rfl)
theorem dX1_bound_39 : decode cX1_bound 39 = .ok (.aload_n 0, 1) := dk_42 (dk_at dksX1_bound_1 17 rfl rfl)
theorem dX1_bound_40 : decode cX1_bound 40 = .ok (.getfield 7, 3) := dk_180 0 7 (dk_at dksX1_bound_1 18 rfl rfl)
theorem dX1_bound_43 : decode cX1_bound 43 = .ok (.iconst 1, 1) := dk_4 (dk_at dksX1_bound_1 21 rfl rfl)
theorem dX1_bound_44 : decode cX1_bound 44 = .ok (.iaload, 1) := dk_46 (dk_at dksX1_bound_1 22 rfl rfl)
theorem dX1_bound_45 : decode cX1_bound 45 = .ok (.if_icmp .ge 50, 3) := dk_162 0 50 (dk_at dksX1_bound_2 0 rfl rfl)
theorem dX1_bound_48 : decode cX1_bound 48 = .ok (.aload_n 0, 1) := dk_42 (dk_at dksX1_bound_2 3 rfl rfl)
theorem dX1_bound_49 : decode cX1_bound 49 = .ok (.getfield 7, 3) := dk_180 0 7 (dk_at dksX1_bound_2 4 rfl rfl)
theorem dX1_bound_52 : decode cX1_bound 52 = .ok (.bipush 45, 2) := dk_16 45 (dk_at dksX1_bound_2 7 rfl rfl)
theorem dX1_bound_54 : decode cX1_bound 54 = .ok (.bipush 6, 2) := dk_16 6 (dk_at dksX1_bound_2 9 rfl rfl)
theorem dX1_bound_56 : decode cX1_bound 56 = .ok (.iload_n 1, 1) := dk_27 (dk_at dksX1_bound_2 11 rfl rfl)
theorem dX1_bound_57 : decode cX1_bound 57 = .ok (.imul, 1) := dk_104 (dk_at dksX1_bound_2 12 rfl rfl)
theorem dX1_bound_58 : decode cX1_bound 58 = .ok (.iadd, 1) := dk_96 (dk_at dksX1_bound_2 13 rfl rfl)
theorem dX1_bound_59 : decode cX1_bound 59 = .ok (.iload 4, 2) := dk_21 4 (dk_at dksX1_bound_2 14 rfl rfl)
theorem dX1_bound_61 : decode cX1_bound 61 = .ok (.iadd, 1) := dk_96 (dk_at dksX1_bound_2 16 rfl rfl)
theorem dX1_bound_62 : decode cX1_bound 62 = .ok (.iaload, 1) := dk_46 (dk_at dksX1_bound_2 17 rfl rfl)
theorem dX1_bound_63 : decode cX1_bound 63 = .ok (.iload_n 3, 1) := dk_29 (dk_at dksX1_bound_2 18 rfl rfl)
theorem dX1_bound_64 : decode cX1_bound 64 = .ok (.aload_n 0, 1) := dk_42 (dk_at dksX1_bound_2 19 rfl rfl)
theorem dX1_bound_65 : decode cX1_bound 65 = .ok (.iload 4, 2) := dk_21 4 (dk_at dksX1_bound_2 20 rfl rfl)
theorem dX1_bound_67 : decode cX1_bound 67 = .ok (.iload_n 2, 1) := dk_28 (dk_at dksX1_bound_2 22 rfl rfl)
theorem dX1_bound_68 : decode cX1_bound 68 = .ok (.invokevirtual 71, 3) := dk_182 0 71 (dk_at dksX1_bound_3 0 rfl rfl)
theorem dX1_bound_71 : decode cX1_bound 71 = .ok (.imul, 1) := dk_104 (dk_at dksX1_bound_3 3 rfl rfl)
theorem dX1_bound_72 : decode cX1_bound 72 = .ok (.iadd, 1) := dk_96 (dk_at dksX1_bound_3 4 rfl rfl)
theorem dX1_bound_73 : decode cX1_bound 73 = .ok (.i2l, 1) := dk_133 (dk_at dksX1_bound_3 5 rfl rfl)
theorem dX1_bound_74 : decode cX1_bound 74 = .ok (.ldc2_w 269, 3) := dk_20 1 13 (dk_at dksX1_bound_3 6 rfl rfl)
theorem dX1_bound_77 : decode cX1_bound 77 = .ok (.ldc2_w 271, 3) := dk_20 1 15 (dk_at dksX1_bound_3 9 rfl rfl)
theorem dX1_bound_80 : decode cX1_bound 80 = .ok (.invokestatic 150, 3) := dk_184 0 150 (dk_at dksX1_bound_3 12 rfl rfl)
theorem dX1_bound_83 : decode cX1_bound 83 = .ok (.ifCond .ne 6, 3) := dk_154 0 6 (dk_at dksX1_bound_3 15 rfl rfl)
theorem dX1_bound_86 : decode cX1_bound 86 = .ok (.ldc 219, 2) := dk_18 219 (dk_at dksX1_bound_3 18 rfl rfl)
theorem dX1_bound_88 : decode cX1_bound 88 = .ok (.ireturn, 1) := dk_172 (dk_at dksX1_bound_3 20 rfl rfl)
theorem dX1_bound_89 : decode cX1_bound 89 = .ok (.iinc 4 1, 3) := dk_132 4 1 (dk_at dksX1_bound_3 21 rfl rfl)
theorem dX1_bound_92 : decode cX1_bound 92 = .ok (.goto (-55), 3) := dk_167 255 201 (dk_at dksX1_bound_4 0 rfl rfl)
theorem dX1_bound_95 : decode cX1_bound 95 = .ok (.aload_n 0, 1) := dk_42 (dk_at dksX1_bound_4 3 rfl rfl)
theorem dX1_bound_96 : decode cX1_bound 96 = .ok (.invokevirtual 252, 3) := dk_182 0 252 (dk_at dksX1_bound_4 4 rfl rfl)
theorem dX1_bound_99 : decode cX1_bound 99 = .ok (.iconst 0, 1) := dk_3 (dk_at dksX1_bound_4 7 rfl rfl)
theorem dX1_bound_100 : decode cX1_bound 100 = .ok (.istore 4, 2) := dk_54 4 (dk_at dksX1_bound_4 8 rfl rfl)
theorem dX1_bound_102 : decode cX1_bound 102 = .ok (.iload 4, 2) := dk_21 4 (dk_at dksX1_bound_4 10 rfl rfl)
theorem dX1_bound_104 : decode cX1_bound 104 = .ok (.aload_n 0, 1) := dk_42 (dk_at dksX1_bound_4 12 rfl rfl)
theorem dX1_bound_105 : decode cX1_bound 105 = .ok (.getfield 7, 3) := dk_180 0 7 (dk_at dksX1_bound_4 13 rfl rfl)
theorem dX1_bound_108 : decode cX1_bound 108 = .ok (.iconst 1, 1) := dk_4 (dk_at dksX1_bound_4 16 rfl rfl)
theorem dX1_bound_109 : decode cX1_bound 109 = .ok (.iaload, 1) := dk_46 (dk_at dksX1_bound_4 17 rfl rfl)
theorem dX1_bound_110 : decode cX1_bound 110 = .ok (.if_icmp .ge 36, 3) := dk_162 0 36 (dk_at dksX1_bound_4 18 rfl rfl)
theorem dX1_bound_113 : decode cX1_bound 113 = .ok (.aload_n 0, 1) := dk_42 (dk_at dksX1_bound_4 21 rfl rfl)
theorem dX1_bound_114 : decode cX1_bound 114 = .ok (.getfield 7, 3) := dk_180 0 7 (dk_at dksX1_bound_5 0 rfl rfl)
theorem dX1_bound_117 : decode cX1_bound 117 = .ok (.bipush 45, 2) := dk_16 45 (dk_at dksX1_bound_5 3 rfl rfl)
theorem dX1_bound_119 : decode cX1_bound 119 = .ok (.bipush 6, 2) := dk_16 6 (dk_at dksX1_bound_5 5 rfl rfl)
theorem dX1_bound_121 : decode cX1_bound 121 = .ok (.iload_n 1, 1) := dk_27 (dk_at dksX1_bound_5 7 rfl rfl)
theorem dX1_bound_122 : decode cX1_bound 122 = .ok (.imul, 1) := dk_104 (dk_at dksX1_bound_5 8 rfl rfl)
theorem dX1_bound_123 : decode cX1_bound 123 = .ok (.iadd, 1) := dk_96 (dk_at dksX1_bound_5 9 rfl rfl)
theorem dX1_bound_124 : decode cX1_bound 124 = .ok (.iload 4, 2) := dk_21 4 (dk_at dksX1_bound_5 10 rfl rfl)
theorem dX1_bound_126 : decode cX1_bound 126 = .ok (.iadd, 1) := dk_96 (dk_at dksX1_bound_5 12 rfl rfl)
theorem dX1_bound_127 : decode cX1_bound 127 = .ok (.dup2, 1) := dk_92 (dk_at dksX1_bound_5 13 rfl rfl)
theorem dX1_bound_128 : decode cX1_bound 128 = .ok (.iaload, 1) := dk_46 (dk_at dksX1_bound_5 14 rfl rfl)
theorem dX1_bound_129 : decode cX1_bound 129 = .ok (.iload_n 3, 1) := dk_29 (dk_at dksX1_bound_5 15 rfl rfl)
theorem dX1_bound_130 : decode cX1_bound 130 = .ok (.aload_n 0, 1) := dk_42 (dk_at dksX1_bound_5 16 rfl rfl)
theorem dX1_bound_131 : decode cX1_bound 131 = .ok (.iload 4, 2) := dk_21 4 (dk_at dksX1_bound_5 17 rfl rfl)
theorem dX1_bound_133 : decode cX1_bound 133 = .ok (.iload_n 2, 1) := dk_28 (dk_at dksX1_bound_5 19 rfl rfl)
theorem dX1_bound_134 : decode cX1_bound 134 = .ok (.invokevirtual 71, 3) := dk_182 0 71 (dk_at dksX1_bound_5 20 rfl rfl)
theorem dX1_bound_137 : decode cX1_bound 137 = .ok (.imul, 1) := dk_104 (dk_at dksX1_bound_5 23 rfl rfl)
theorem dX1_bound_138 : decode cX1_bound 138 = .ok (.iadd, 1) := dk_96 (dk_at dksX1_bound_6 0 rfl rfl)
theorem dX1_bound_139 : decode cX1_bound 139 = .ok (.iastore, 1) := dk_79 (dk_at dksX1_bound_6 1 rfl rfl)
theorem dX1_bound_140 : decode cX1_bound 140 = .ok (.iinc 4 1, 3) := dk_132 4 1 (dk_at dksX1_bound_6 2 rfl rfl)
theorem dX1_bound_143 : decode cX1_bound 143 = .ok (.goto (-41), 3) := dk_167 255 215 (dk_at dksX1_bound_6 5 rfl rfl)
theorem dX1_bound_146 : decode cX1_bound 146 = .ok (.aload_n 0, 1) := dk_42 (dk_at dksX1_bound_6 8 rfl rfl)
theorem dX1_bound_147 : decode cX1_bound 147 = .ok (.iload_n 1, 1) := dk_27 (dk_at dksX1_bound_6 9 rfl rfl)
theorem dX1_bound_148 : decode cX1_bound 148 = .ok (.invokevirtual 273, 3) := dk_182 1 17 (dk_at dksX1_bound_6 10 rfl rfl)
theorem dX1_bound_151 : decode cX1_bound 151 = .ok (.ireturn, 1) := dk_172 (dk_at dksX1_bound_6 13 rfl rfl)
abbrev cX1_two : ByteArray := prog_14_method_17_code
def yX1_two : MethodName := ⟨RX1, "two", "(II)I"⟩
def dkwX1_two_2 : List UInt8 := [184, 0, 64, 156, 0, 7, 2, 167, 0, 4, 4, 96, 62, 132, 4, 1, 167, 255, 198, 29, 172]
abbrev dktX1_two_2 : List UInt8 := dkwX1_two_2 ++ []
def dkwX1_two_1 : List UInt8 := [21, 4, 184, 0, 64, 184, 0, 52, 27, 159, 0, 7, 3, 167, 0, 21, 42, 180, 0, 7, 28, 21, 4]
abbrev dktX1_two_1 : List UInt8 := dkwX1_two_1 ++ dktX1_two_2
def dkwX1_two_0 : List UInt8 := [3, 62, 3, 54, 4, 21, 4, 42, 180, 0, 7, 28, 184, 0, 60, 162, 0, 51, 29, 42, 180, 0, 7, 28]
abbrev dktX1_two_0 : List UInt8 := dkwX1_two_0 ++ dktX1_two_1
theorem dksX1_two_0 : cX1_two.data.toList.drop 0 = dktX1_two_0 := by decide +kernel
theorem dksX1_two_1 : cX1_two.data.toList.drop 24 = dktX1_two_1 := dk_seg dksX1_two_0 24 rfl rfl
theorem dksX1_two_2 : cX1_two.data.toList.drop 47 = dktX1_two_2 := dk_seg dksX1_two_1 23 rfl rfl
theorem dX1_two_0 : decode cX1_two 0 = .ok (.iconst 0, 1) := dk_3 (dk_at dksX1_two_0 0 rfl rfl)
theorem dX1_two_1 : decode cX1_two 1 = .ok (.istore_n 3, 1) := dk_62 (dk_at dksX1_two_0 1 rfl rfl)
theorem dX1_two_2 : decode cX1_two 2 = .ok (.iconst 0, 1) := dk_3 (dk_at dksX1_two_0 2 rfl rfl)
theorem dX1_two_3 : decode cX1_two 3 = .ok (.istore 4, 2) := dk_54 4 (dk_at dksX1_two_0 3 rfl rfl)
theorem dX1_two_5 : decode cX1_two 5 = .ok (.iload 4, 2) := dk_21 4 (dk_at dksX1_two_0 5 rfl rfl)
theorem dX1_two_7 : decode cX1_two 7 = .ok (.aload_n 0, 1) := dk_42 (dk_at dksX1_two_0 7 rfl rfl)
theorem dX1_two_8 : decode cX1_two 8 = .ok (.getfield 7, 3) := dk_180 0 7 (dk_at dksX1_two_0 8 rfl rfl)
theorem dX1_two_11 : decode cX1_two 11 = .ok (.iload_n 2, 1) := dk_28 (dk_at dksX1_two_0 11 rfl rfl)
theorem dX1_two_12 : decode cX1_two 12 = .ok (.invokestatic 60, 3) := dk_184 0 60 (dk_at dksX1_two_0 12 rfl rfl)
theorem dX1_two_15 : decode cX1_two 15 = .ok (.if_icmp .ge 51, 3) := dk_162 0 51 (dk_at dksX1_two_0 15 rfl rfl)
theorem dX1_two_18 : decode cX1_two 18 = .ok (.iload_n 3, 1) := dk_29 (dk_at dksX1_two_0 18 rfl rfl)
theorem dX1_two_19 : decode cX1_two 19 = .ok (.aload_n 0, 1) := dk_42 (dk_at dksX1_two_0 19 rfl rfl)
theorem dX1_two_20 : decode cX1_two 20 = .ok (.getfield 7, 3) := dk_180 0 7 (dk_at dksX1_two_0 20 rfl rfl)
theorem dX1_two_23 : decode cX1_two 23 = .ok (.iload_n 2, 1) := dk_28 (dk_at dksX1_two_0 23 rfl rfl)
theorem dX1_two_24 : decode cX1_two 24 = .ok (.iload 4, 2) := dk_21 4 (dk_at dksX1_two_1 0 rfl rfl)
theorem dX1_two_26 : decode cX1_two 26 = .ok (.invokestatic 64, 3) := dk_184 0 64 (dk_at dksX1_two_1 2 rfl rfl)
theorem dX1_two_29 : decode cX1_two 29 = .ok (.invokestatic 52, 3) := dk_184 0 52 (dk_at dksX1_two_1 5 rfl rfl)
theorem dX1_two_32 : decode cX1_two 32 = .ok (.iload_n 1, 1) := dk_27 (dk_at dksX1_two_1 8 rfl rfl)
theorem dX1_two_33 : decode cX1_two 33 = .ok (.if_icmp .eq 7, 3) := dk_159 0 7 (dk_at dksX1_two_1 9 rfl rfl)
theorem dX1_two_36 : decode cX1_two 36 = .ok (.iconst 0, 1) := dk_3 (dk_at dksX1_two_1 12 rfl rfl)
theorem dX1_two_37 : decode cX1_two 37 = .ok (.goto 21, 3) := dk_167 0 21 (dk_at dksX1_two_1 13 rfl rfl)
theorem dX1_two_40 : decode cX1_two 40 = .ok (.aload_n 0, 1) := dk_42 (dk_at dksX1_two_1 16 rfl rfl)
theorem dX1_two_41 : decode cX1_two 41 = .ok (.getfield 7, 3) := dk_180 0 7 (dk_at dksX1_two_1 17 rfl rfl)
theorem dX1_two_44 : decode cX1_two 44 = .ok (.iload_n 2, 1) := dk_28 (dk_at dksX1_two_1 20 rfl rfl)
theorem dX1_two_45 : decode cX1_two 45 = .ok (.iload 4, 2) := dk_21 4 (dk_at dksX1_two_1 21 rfl rfl)
theorem dX1_two_47 : decode cX1_two 47 = .ok (.invokestatic 64, 3) := dk_184 0 64 (dk_at dksX1_two_2 0 rfl rfl)
theorem dX1_two_50 : decode cX1_two 50 = .ok (.ifCond .ge 7, 3) := dk_156 0 7 (dk_at dksX1_two_2 3 rfl rfl)
theorem dX1_two_53 : decode cX1_two 53 = .ok (.iconst (-1), 1) := dk_2 (dk_at dksX1_two_2 6 rfl rfl)
theorem dX1_two_54 : decode cX1_two 54 = .ok (.goto 4, 3) := dk_167 0 4 (dk_at dksX1_two_2 7 rfl rfl)
theorem dX1_two_57 : decode cX1_two 57 = .ok (.iconst 1, 1) := dk_4 (dk_at dksX1_two_2 10 rfl rfl)
theorem dX1_two_58 : decode cX1_two 58 = .ok (.iadd, 1) := dk_96 (dk_at dksX1_two_2 11 rfl rfl)
theorem dX1_two_59 : decode cX1_two 59 = .ok (.istore_n 3, 1) := dk_62 (dk_at dksX1_two_2 12 rfl rfl)
theorem dX1_two_60 : decode cX1_two 60 = .ok (.iinc 4 1, 3) := dk_132 4 1 (dk_at dksX1_two_2 13 rfl rfl)
theorem dX1_two_63 : decode cX1_two 63 = .ok (.goto (-58), 3) := dk_167 255 198 (dk_at dksX1_two_2 16 rfl rfl)
theorem dX1_two_66 : decode cX1_two 66 = .ok (.iload_n 3, 1) := dk_29 (dk_at dksX1_two_2 19 rfl rfl)
theorem dX1_two_67 : decode cX1_two 67 = .ok (.ireturn, 1) := dk_172 (dk_at dksX1_two_2 20 rfl rfl)
abbrev cX1_others : ByteArray := prog_14_method_64_code
def yX1_others : MethodName := ⟨RX1, "others", "(I)I"⟩
def dkwX1_others_1 : List UInt8 := [104, 96, 29, 96, 46, 154, 0, 7, 3, 167, 0, 4, 4, 96, 61, 132, 3, 1, 167, 255, 218, 28, 172]
abbrev dktX1_others_1 : List UInt8 := dkwX1_others_1 ++ []
def dkwX1_others_0 : List UInt8 := [3, 61, 3, 62, 29, 42, 180, 0, 7, 4, 46, 162, 0, 34, 28, 42, 180, 0, 7, 16, 45, 16, 6, 27]
abbrev dktX1_others_0 : List UInt8 := dkwX1_others_0 ++ dktX1_others_1
theorem dksX1_others_0 : cX1_others.data.toList.drop 0 = dktX1_others_0 := by decide +kernel
theorem dksX1_others_1 : cX1_others.data.toList.drop 24 = dktX1_others_1 := dk_seg dksX1_others_0 24 rfl rfl
theorem dX1_others_0 : decode cX1_others 0 = .ok (.iconst 0, 1) := dk_3 (dk_at dksX1_others_0 0 rfl rfl)
theorem dX1_others_1 : decode cX1_others 1 = .ok (.istore_n 2, 1) := dk_61 (dk_at dksX1_others_0 1 rfl rfl)
theorem dX1_others_2 : decode cX1_others 2 = .ok (.iconst 0, 1) := dk_3 (dk_at dksX1_others_0 2 rfl rfl)
theorem dX1_others_3 : decode cX1_others 3 = .ok (.istore_n 3, 1) := dk_62 (dk_at dksX1_others_0 3 rfl rfl)
theorem dX1_others_4 : decode cX1_others 4 = .ok (.iload_n 3, 1) := dk_29 (dk_at dksX1_others_0 4 rfl rfl)
theorem dX1_others_5 : decode cX1_others 5 = .ok (.aload_n 0, 1) := dk_42 (dk_at dksX1_others_0 5 rfl rfl)
theorem dX1_others_6 : decode cX1_others 6 = .ok (.getfield 7, 3) := dk_180 0 7 (dk_at dksX1_others_0 6 rfl rfl)
theorem dX1_others_9 : decode cX1_others 9 = .ok (.iconst 1, 1) := dk_4 (dk_at dksX1_others_0 9 rfl rfl)
theorem dX1_others_10 : decode cX1_others 10 = .ok (.iaload, 1) := dk_46 (dk_at dksX1_others_0 10 rfl rfl)
theorem dX1_others_11 : decode cX1_others 11 = .ok (.if_icmp .ge 34, 3) := dk_162 0 34 (dk_at dksX1_others_0 11 rfl rfl)
theorem dX1_others_14 : decode cX1_others 14 = .ok (.iload_n 2, 1) := dk_28 (dk_at dksX1_others_0 14 rfl rfl)
theorem dX1_others_15 : decode cX1_others 15 = .ok (.aload_n 0, 1) := dk_42 (dk_at dksX1_others_0 15 rfl rfl)
theorem dX1_others_16 : decode cX1_others 16 = .ok (.getfield 7, 3) := dk_180 0 7 (dk_at dksX1_others_0 16 rfl rfl)
theorem dX1_others_19 : decode cX1_others 19 = .ok (.bipush 45, 2) := dk_16 45 (dk_at dksX1_others_0 19 rfl rfl)
theorem dX1_others_21 : decode cX1_others 21 = .ok (.bipush 6, 2) := dk_16 6 (dk_at dksX1_others_0 21 rfl rfl)
theorem dX1_others_23 : decode cX1_others 23 = .ok (.iload_n 1, 1) := dk_27 (dk_at dksX1_others_0 23 rfl rfl)
theorem dX1_others_24 : decode cX1_others 24 = .ok (.imul, 1) := dk_104 (dk_at dksX1_others_1 0 rfl rfl)
theorem dX1_others_25 : decode cX1_others 25 = .ok (.iadd, 1) := dk_96 (dk_at dksX1_others_1 1 rfl rfl)
theorem dX1_others_26 : decode cX1_others 26 = .ok (.iload_n 3, 1) := dk_29 (dk_at dksX1_others_1 2 rfl rfl)
theorem dX1_others_27 : decode cX1_others 27 = .ok (.iadd, 1) := dk_96 (dk_at dksX1_others_1 3 rfl rfl)
theorem dX1_others_28 : decode cX1_others 28 = .ok (.iaload, 1) := dk_46 (dk_at dksX1_others_1 4 rfl rfl)
theorem dX1_others_29 : decode cX1_others 29 = .ok (.ifCond .ne 7, 3) := dk_154 0 7 (dk_at dksX1_others_1 5 rfl rfl)
theorem dX1_others_32 : decode cX1_others 32 = .ok (.iconst 0, 1) := dk_3 (dk_at dksX1_others_1 8 rfl rfl)
theorem dX1_others_33 : decode cX1_others 33 = .ok (.goto 4, 3) := dk_167 0 4 (dk_at dksX1_others_1 9 rfl rfl)
theorem dX1_others_36 : decode cX1_others 36 = .ok (.iconst 1, 1) := dk_4 (dk_at dksX1_others_1 12 rfl rfl)
theorem dX1_others_37 : decode cX1_others 37 = .ok (.iadd, 1) := dk_96 (dk_at dksX1_others_1 13 rfl rfl)
theorem dX1_others_38 : decode cX1_others 38 = .ok (.istore_n 2, 1) := dk_61 (dk_at dksX1_others_1 14 rfl rfl)
theorem dX1_others_39 : decode cX1_others 39 = .ok (.iinc 3 1, 3) := dk_132 3 1 (dk_at dksX1_others_1 15 rfl rfl)
theorem dX1_others_42 : decode cX1_others 42 = .ok (.goto (-38), 3) := dk_167 255 218 (dk_at dksX1_others_1 18 rfl rfl)
theorem dX1_others_45 : decode cX1_others 45 = .ok (.iload_n 2, 1) := dk_28 (dk_at dksX1_others_1 21 rfl rfl)
theorem dX1_others_46 : decode cX1_others 46 = .ok (.ireturn, 1) := dk_172 (dk_at dksX1_others_1 22 rfl rfl)
abbrev cX1_drawn : ByteArray := prog_14_method_67_code
def yX1_drawn : MethodName := ⟨RX1, "drawn", "(II)I"⟩
def dkwX1_drawn_4 : List UInt8 := [132, 5, 1, 167, 255, 208, 42, 27, 182, 1, 17, 172]
abbrev dktX1_drawn_4 : List UInt8 := dkwX1_drawn_4 ++ []
def dkwX1_drawn_3 : List UInt8 := [180, 0, 7, 16, 45, 16, 6, 27, 104, 96, 21, 5, 96, 33, 20, 1, 26, 113, 136, 16, 9, 100, 79]
abbrev dktX1_drawn_3 : List UInt8 := dkwX1_drawn_3 ++ dktX1_drawn_4
def dkwX1_drawn_2 : List UInt8 := [21, 5, 42, 180, 0, 7, 4, 46, 162, 0, 43, 33, 20, 1, 22, 105, 20, 1, 24, 113, 66, 42]
abbrev dktX1_drawn_2 : List UInt8 := dkwX1_drawn_2 ++ dktX1_drawn_3
def dkwX1_drawn_1 : List UInt8 := [10, 20, 1, 20, 184, 0, 150, 154, 0, 6, 18, 218, 172, 42, 182, 0, 252, 28, 133, 66, 3, 54, 5]
abbrev dktX1_drawn_1 : List UInt8 := dkwX1_drawn_1 ++ dktX1_drawn_2
def dkwX1_drawn_0 : List UInt8 := [42, 182, 0, 244, 154, 0, 6, 18, 241, 172, 27, 133, 9, 20, 0, 242, 184, 0, 150, 153, 0, 15, 28, 133]
abbrev dktX1_drawn_0 : List UInt8 := dkwX1_drawn_0 ++ dktX1_drawn_1
theorem dksX1_drawn_0 : cX1_drawn.data.toList.drop 0 = dktX1_drawn_0 := by decide +kernel
theorem dksX1_drawn_1 : cX1_drawn.data.toList.drop 24 = dktX1_drawn_1 := dk_seg dksX1_drawn_0 24 rfl rfl
theorem dksX1_drawn_2 : cX1_drawn.data.toList.drop 47 = dktX1_drawn_2 := dk_seg dksX1_drawn_1 23 rfl rfl
theorem dksX1_drawn_3 : cX1_drawn.data.toList.drop 69 = dktX1_drawn_3 := dk_seg dksX1_drawn_2 22 rfl rfl
theorem dksX1_drawn_4 : cX1_drawn.data.toList.drop 92 = dktX1_drawn_4 := dk_seg dksX1_drawn_3 23 rfl rfl
theorem dX1_drawn_0 : decode cX1_drawn 0 = .ok (.aload_n 0, 1) := dk_42 (dk_at dksX1_drawn_0 0 rfl rfl)
theorem dX1_drawn_1 : decode cX1_drawn 1 = .ok (.invokevirtual 244, 3) := dk_182 0 244 (dk_at dksX1_drawn_0 1 rfl rfl)
theorem dX1_drawn_4 : decode cX1_drawn 4 = .ok (.ifCond .ne 6, 3) := dk_154 0 6 (dk_at dksX1_drawn_0 4 rfl rfl)
theorem dX1_drawn_7 : decode cX1_drawn 7 = .ok (.ldc 241, 2) := dk_18 241 (dk_at dksX1_drawn_0 7 rfl rfl)
theorem dX1_drawn_9 : decode cX1_drawn 9 = .ok (.ireturn, 1) := dk_172 (dk_at dksX1_drawn_0 9 rfl rfl)
theorem dX1_drawn_10 : decode cX1_drawn 10 = .ok (.iload_n 1, 1) := dk_27 (dk_at dksX1_drawn_0 10 rfl rfl)
theorem dX1_drawn_11 : decode cX1_drawn 11 = .ok (.i2l, 1) := dk_133 (dk_at dksX1_drawn_0 11 rfl rfl)
theorem dX1_drawn_12 : decode cX1_drawn 12 = .ok (.lconst 0, 1) := dk_9 (dk_at dksX1_drawn_0 12 rfl rfl)
theorem dX1_drawn_13 : decode cX1_drawn 13 = .ok (.ldc2_w 242, 3) := dk_20 0 242 (dk_at dksX1_drawn_0 13 rfl rfl)
theorem dX1_drawn_16 : decode cX1_drawn 16 = .ok (.invokestatic 150, 3) := dk_184 0 150 (dk_at dksX1_drawn_0 16 rfl rfl)
theorem dX1_drawn_19 : decode cX1_drawn 19 = .ok (.ifCond .eq 15, 3) := dk_153 0 15 (dk_at dksX1_drawn_0 19 rfl rfl)
theorem dX1_drawn_22 : decode cX1_drawn 22 = .ok (.iload_n 2, 1) := dk_28 (dk_at dksX1_drawn_0 22 rfl rfl)
theorem dX1_drawn_23 : decode cX1_drawn 23 = .ok (.i2l, 1) := dk_133 (dk_at dksX1_drawn_0 23 rfl rfl)
theorem dX1_drawn_24 : decode cX1_drawn 24 = .ok (.lconst 1, 1) := dk_10 (dk_at dksX1_drawn_1 0 rfl rfl)
theorem dX1_drawn_25 : decode cX1_drawn 25 = .ok (.ldc2_w 276, 3) := dk_20 1 20 (dk_at dksX1_drawn_1 1 rfl rfl)
theorem dX1_drawn_28 : decode cX1_drawn 28 = .ok (.invokestatic 150, 3) := dk_184 0 150 (dk_at dksX1_drawn_1 4 rfl rfl)
theorem dX1_drawn_31 : decode cX1_drawn 31 = .ok (.ifCond .ne 6, 3) := dk_154 0 6 (dk_at dksX1_drawn_1 7 rfl rfl)
theorem dX1_drawn_34 : decode cX1_drawn 34 = .ok (.ldc 218, 2) := dk_18 218 (dk_at dksX1_drawn_1 10 rfl rfl)
theorem dX1_drawn_36 : decode cX1_drawn 36 = .ok (.ireturn, 1) := dk_172 (dk_at dksX1_drawn_1 12 rfl rfl)
theorem dX1_drawn_37 : decode cX1_drawn 37 = .ok (.aload_n 0, 1) := dk_42 (dk_at dksX1_drawn_1 13 rfl rfl)
theorem dX1_drawn_38 : decode cX1_drawn 38 = .ok (.invokevirtual 252, 3) := dk_182 0 252 (dk_at dksX1_drawn_1 14 rfl rfl)
theorem dX1_drawn_41 : decode cX1_drawn 41 = .ok (.iload_n 2, 1) := dk_28 (dk_at dksX1_drawn_1 17 rfl rfl)
theorem dX1_drawn_42 : decode cX1_drawn 42 = .ok (.i2l, 1) := dk_133 (dk_at dksX1_drawn_1 18 rfl rfl)
theorem dX1_drawn_43 : decode cX1_drawn 43 = .ok (.lstore_n 3, 1) := dk_66 (dk_at dksX1_drawn_1 19 rfl rfl)
theorem dX1_drawn_44 : decode cX1_drawn 44 = .ok (.iconst 0, 1) := dk_3 (dk_at dksX1_drawn_1 20 rfl rfl)
theorem dX1_drawn_45 : decode cX1_drawn 45 = .ok (.istore 5, 2) := dk_54 5 (dk_at dksX1_drawn_1 21 rfl rfl)
theorem dX1_drawn_47 : decode cX1_drawn 47 = .ok (.iload 5, 2) := dk_21 5 (dk_at dksX1_drawn_2 0 rfl rfl)
theorem dX1_drawn_49 : decode cX1_drawn 49 = .ok (.aload_n 0, 1) := dk_42 (dk_at dksX1_drawn_2 2 rfl rfl)
theorem dX1_drawn_50 : decode cX1_drawn 50 = .ok (.getfield 7, 3) := dk_180 0 7 (dk_at dksX1_drawn_2 3 rfl rfl)
theorem dX1_drawn_53 : decode cX1_drawn 53 = .ok (.iconst 1, 1) := dk_4 (dk_at dksX1_drawn_2 6 rfl rfl)
theorem dX1_drawn_54 : decode cX1_drawn 54 = .ok (.iaload, 1) := dk_46 (dk_at dksX1_drawn_2 7 rfl rfl)
theorem dX1_drawn_55 : decode cX1_drawn 55 = .ok (.if_icmp .ge 43, 3) := dk_162 0 43 (dk_at dksX1_drawn_2 8 rfl rfl)
theorem dX1_drawn_58 : decode cX1_drawn 58 = .ok (.lload_n 3, 1) := dk_33 (dk_at dksX1_drawn_2 11 rfl rfl)
theorem dX1_drawn_59 : decode cX1_drawn 59 = .ok (.ldc2_w 278, 3) := dk_20 1 22 (dk_at dksX1_drawn_2 12 rfl rfl)
theorem dX1_drawn_62 : decode cX1_drawn 62 = .ok (.lmul, 1) := dk_105 (dk_at dksX1_drawn_2 15 rfl rfl)
theorem dX1_drawn_63 : decode cX1_drawn 63 = .ok (.ldc2_w 280, 3) := dk_20 1 24 (dk_at dksX1_drawn_2 16 rfl rfl)
theorem dX1_drawn_66 : decode cX1_drawn 66 = .ok (.lrem, 1) := dk_113 (dk_at dksX1_drawn_2 19 rfl rfl)
theorem dX1_drawn_67 : decode cX1_drawn 67 = .ok (.lstore_n 3, 1) := dk_66 (dk_at dksX1_drawn_2 20 rfl rfl)
theorem dX1_drawn_68 : decode cX1_drawn 68 = .ok (.aload_n 0, 1) := dk_42 (dk_at dksX1_drawn_2 21 rfl rfl)
theorem dX1_drawn_69 : decode cX1_drawn 69 = .ok (.getfield 7, 3) := dk_180 0 7 (dk_at dksX1_drawn_3 0 rfl rfl)
theorem dX1_drawn_72 : decode cX1_drawn 72 = .ok (.bipush 45, 2) := dk_16 45 (dk_at dksX1_drawn_3 3 rfl rfl)
theorem dX1_drawn_74 : decode cX1_drawn 74 = .ok (.bipush 6, 2) := dk_16 6 (dk_at dksX1_drawn_3 5 rfl rfl)
theorem dX1_drawn_76 : decode cX1_drawn 76 = .ok (.iload_n 1, 1) := dk_27 (dk_at dksX1_drawn_3 7 rfl rfl)
theorem dX1_drawn_77 : decode cX1_drawn 77 = .ok (.imul, 1) := dk_104 (dk_at dksX1_drawn_3 8 rfl rfl)
theorem dX1_drawn_78 : decode cX1_drawn 78 = .ok (.iadd, 1) := dk_96 (dk_at dksX1_drawn_3 9 rfl rfl)
theorem dX1_drawn_79 : decode cX1_drawn 79 = .ok (.iload 5, 2) := dk_21 5 (dk_at dksX1_drawn_3 10 rfl rfl)
theorem dX1_drawn_81 : decode cX1_drawn 81 = .ok (.iadd, 1) := dk_96 (dk_at dksX1_drawn_3 12 rfl rfl)
theorem dX1_drawn_82 : decode cX1_drawn 82 = .ok (.lload_n 3, 1) := dk_33 (dk_at dksX1_drawn_3 13 rfl rfl)
theorem dX1_drawn_83 : decode cX1_drawn 83 = .ok (.ldc2_w 282, 3) := dk_20 1 26 (dk_at dksX1_drawn_3 14 rfl rfl)
theorem dX1_drawn_86 : decode cX1_drawn 86 = .ok (.lrem, 1) := dk_113 (dk_at dksX1_drawn_3 17 rfl rfl)
theorem dX1_drawn_87 : decode cX1_drawn 87 = .ok (.l2i, 1) := dk_136 (dk_at dksX1_drawn_3 18 rfl rfl)
theorem dX1_drawn_88 : decode cX1_drawn 88 = .ok (.bipush 9, 2) := dk_16 9 (dk_at dksX1_drawn_3 19 rfl rfl)
theorem dX1_drawn_90 : decode cX1_drawn 90 = .ok (.isub, 1) := dk_100 (dk_at dksX1_drawn_3 21 rfl rfl)
theorem dX1_drawn_91 : decode cX1_drawn 91 = .ok (.iastore, 1) := dk_79 (dk_at dksX1_drawn_3 22 rfl rfl)
theorem dX1_drawn_92 : decode cX1_drawn 92 = .ok (.iinc 5 1, 3) := dk_132 5 1 (dk_at dksX1_drawn_4 0 rfl rfl)
theorem dX1_drawn_95 : decode cX1_drawn 95 = .ok (.goto (-48), 3) := dk_167 255 208 (dk_at dksX1_drawn_4 3 rfl rfl)
theorem dX1_drawn_98 : decode cX1_drawn 98 = .ok (.aload_n 0, 1) := dk_42 (dk_at dksX1_drawn_4 6 rfl rfl)
theorem dX1_drawn_99 : decode cX1_drawn 99 = .ok (.iload_n 1, 1) := dk_27 (dk_at dksX1_drawn_4 7 rfl rfl)
theorem dX1_drawn_100 : decode cX1_drawn 100 = .ok (.invokevirtual 273, 3) := dk_182 1 17 (dk_at dksX1_drawn_4 8 rfl rfl)
theorem dX1_drawn_103 : decode cX1_drawn 103 = .ok (.ireturn, 1) := dk_172 (dk_at dksX1_drawn_4 11 rfl rfl)
abbrev cX1_cell : ByteArray := prog_14_method_69_code
def yX1_cell : MethodName := ⟨RX1, "cell", "(III)I"⟩
def dkwX1_cell_6 : List UInt8 := [29, 16, 10, 100, 184, 0, 64, 182, 1, 32, 167, 0, 6, 19, 1, 35, 172]
abbrev dktX1_cell_6 : List UInt8 := dkwX1_cell_6 ++ []
def dkwX1_cell_5 : List UInt8 := [167, 0, 40, 29, 16, 10, 100, 42, 180, 0, 7, 28, 184, 0, 60, 162, 0, 22, 42, 42, 180, 0, 7, 28]
abbrev dktX1_cell_5 : List UInt8 := dkwX1_cell_5 ++ dktX1_cell_6
def dkwX1_cell_4 : List UInt8 := [184, 0, 64, 184, 0, 188, 172, 29, 133, 20, 1, 28, 20, 1, 30, 184, 0, 150, 154, 0, 8, 18, 218]
abbrev dktX1_cell_4 : List UInt8 := dkwX1_cell_4 ++ dktX1_cell_5
def dkwX1_cell_3 : List UInt8 := [180, 0, 7, 28, 184, 0, 60, 172, 29, 5, 160, 0, 20, 42, 180, 0, 7, 42, 180, 0, 7, 28, 3]
abbrev dktX1_cell_3 : List UInt8 := dkwX1_cell_3 ++ dktX1_cell_4
def dkwX1_cell_2 : List UInt8 := [180, 0, 7, 28, 29, 4, 100, 184, 0, 56, 167, 0, 5, 18, 218, 172, 29, 4, 160, 0, 12, 42]
abbrev dktX1_cell_2 : List UInt8 := dkwX1_cell_2 ++ dktX1_cell_3
def dkwX1_cell_1 : List UInt8 := [27, 28, 184, 0, 81, 172, 27, 4, 160, 0, 30, 29, 4, 159, 0, 8, 29, 5, 160, 0, 17, 42]
abbrev dktX1_cell_1 : List UInt8 := dkwX1_cell_1 ++ dktX1_cell_2
def dkwX1_cell_0 : List UInt8 := [27, 153, 0, 12, 42, 27, 28, 182, 0, 247, 154, 0, 6, 18, 218, 172, 29, 154, 0, 13, 42, 180, 0, 7]
abbrev dktX1_cell_0 : List UInt8 := dkwX1_cell_0 ++ dktX1_cell_1
theorem dksX1_cell_0 : cX1_cell.data.toList.drop 0 = dktX1_cell_0 := by decide +kernel
theorem dksX1_cell_1 : cX1_cell.data.toList.drop 24 = dktX1_cell_1 := dk_seg dksX1_cell_0 24 rfl rfl
theorem dksX1_cell_2 : cX1_cell.data.toList.drop 46 = dktX1_cell_2 := dk_seg dksX1_cell_1 22 rfl rfl
theorem dksX1_cell_3 : cX1_cell.data.toList.drop 68 = dktX1_cell_3 := dk_seg dksX1_cell_2 22 rfl rfl
theorem dksX1_cell_4 : cX1_cell.data.toList.drop 91 = dktX1_cell_4 := dk_seg dksX1_cell_3 23 rfl rfl
theorem dksX1_cell_5 : cX1_cell.data.toList.drop 114 = dktX1_cell_5 := dk_seg dksX1_cell_4 23 rfl rfl
theorem dksX1_cell_6 : cX1_cell.data.toList.drop 138 = dktX1_cell_6 := dk_seg dksX1_cell_5 24 rfl rfl
theorem dX1_cell_0 : decode cX1_cell 0 = .ok (.iload_n 1, 1) := dk_27 (dk_at dksX1_cell_0 0 rfl rfl)
theorem dX1_cell_1 : decode cX1_cell 1 = .ok (.ifCond .eq 12, 3) := dk_153 0 12 (dk_at dksX1_cell_0 1 rfl rfl)
theorem dX1_cell_4 : decode cX1_cell 4 = .ok (.aload_n 0, 1) := dk_42 (dk_at dksX1_cell_0 4 rfl rfl)
theorem dX1_cell_5 : decode cX1_cell 5 = .ok (.iload_n 1, 1) := dk_27 (dk_at dksX1_cell_0 5 rfl rfl)
theorem dX1_cell_6 : decode cX1_cell 6 = .ok (.iload_n 2, 1) := dk_28 (dk_at dksX1_cell_0 6 rfl rfl)
theorem dX1_cell_7 : decode cX1_cell 7 = .ok (.invokevirtual 247, 3) := dk_182 0 247 (dk_at dksX1_cell_0 7 rfl rfl)
theorem dX1_cell_10 : decode cX1_cell 10 = .ok (.ifCond .ne 6, 3) := dk_154 0 6 (dk_at dksX1_cell_0 10 rfl rfl)
theorem dX1_cell_13 : decode cX1_cell 13 = .ok (.ldc 218, 2) := dk_18 218 (dk_at dksX1_cell_0 13 rfl rfl)
theorem dX1_cell_15 : decode cX1_cell 15 = .ok (.ireturn, 1) := dk_172 (dk_at dksX1_cell_0 15 rfl rfl)
theorem dX1_cell_16 : decode cX1_cell 16 = .ok (.iload_n 3, 1) := dk_29 (dk_at dksX1_cell_0 16 rfl rfl)
theorem dX1_cell_17 : decode cX1_cell 17 = .ok (.ifCond .ne 13, 3) := dk_154 0 13 (dk_at dksX1_cell_0 17 rfl rfl)
theorem dX1_cell_20 : decode cX1_cell 20 = .ok (.aload_n 0, 1) := dk_42 (dk_at dksX1_cell_0 20 rfl rfl)
theorem dX1_cell_21 : decode cX1_cell 21 = .ok (.getfield 7, 3) := dk_180 0 7 (dk_at dksX1_cell_0 21 rfl rfl)
theorem dX1_cell_24 : decode cX1_cell 24 = .ok (.iload_n 1, 1) := dk_27 (dk_at dksX1_cell_1 0 rfl rfl)
theorem dX1_cell_25 : decode cX1_cell 25 = .ok (.iload_n 2, 1) := dk_28 (dk_at dksX1_cell_1 1 rfl rfl)
theorem dX1_cell_26 : decode cX1_cell 26 = .ok (.invokestatic 81, 3) := dk_184 0 81 (dk_at dksX1_cell_1 2 rfl rfl)
theorem dX1_cell_29 : decode cX1_cell 29 = .ok (.ireturn, 1) := dk_172 (dk_at dksX1_cell_1 5 rfl rfl)
theorem dX1_cell_30 : decode cX1_cell 30 = .ok (.iload_n 1, 1) := dk_27 (dk_at dksX1_cell_1 6 rfl rfl)
theorem dX1_cell_31 : decode cX1_cell 31 = .ok (.iconst 1, 1) := dk_4 (dk_at dksX1_cell_1 7 rfl rfl)
theorem dX1_cell_32 : decode cX1_cell 32 = .ok (.if_icmp .ne 30, 3) := dk_160 0 30 (dk_at dksX1_cell_1 8 rfl rfl)
theorem dX1_cell_35 : decode cX1_cell 35 = .ok (.iload_n 3, 1) := dk_29 (dk_at dksX1_cell_1 11 rfl rfl)
theorem dX1_cell_36 : decode cX1_cell 36 = .ok (.iconst 1, 1) := dk_4 (dk_at dksX1_cell_1 12 rfl rfl)
theorem dX1_cell_37 : decode cX1_cell 37 = .ok (.if_icmp .eq 8, 3) := dk_159 0 8 (dk_at dksX1_cell_1 13 rfl rfl)
theorem dX1_cell_40 : decode cX1_cell 40 = .ok (.iload_n 3, 1) := dk_29 (dk_at dksX1_cell_1 16 rfl rfl)
theorem dX1_cell_41 : decode cX1_cell 41 = .ok (.iconst 2, 1) := dk_5 (dk_at dksX1_cell_1 17 rfl rfl)
theorem dX1_cell_42 : decode cX1_cell 42 = .ok (.if_icmp .ne 17, 3) := dk_160 0 17 (dk_at dksX1_cell_1 18 rfl rfl)
theorem dX1_cell_45 : decode cX1_cell 45 = .ok (.aload_n 0, 1) := dk_42 (dk_at dksX1_cell_1 21 rfl rfl)
theorem dX1_cell_46 : decode cX1_cell 46 = .ok (.getfield 7, 3) := dk_180 0 7 (dk_at dksX1_cell_2 0 rfl rfl)
theorem dX1_cell_49 : decode cX1_cell 49 = .ok (.iload_n 2, 1) := dk_28 (dk_at dksX1_cell_2 3 rfl rfl)
theorem dX1_cell_50 : decode cX1_cell 50 = .ok (.iload_n 3, 1) := dk_29 (dk_at dksX1_cell_2 4 rfl rfl)
theorem dX1_cell_51 : decode cX1_cell 51 = .ok (.iconst 1, 1) := dk_4 (dk_at dksX1_cell_2 5 rfl rfl)
theorem dX1_cell_52 : decode cX1_cell 52 = .ok (.isub, 1) := dk_100 (dk_at dksX1_cell_2 6 rfl rfl)
theorem dX1_cell_53 : decode cX1_cell 53 = .ok (.invokestatic 56, 3) := dk_184 0 56 (dk_at dksX1_cell_2 7 rfl rfl)
theorem dX1_cell_56 : decode cX1_cell 56 = .ok (.goto 5, 3) := dk_167 0 5 (dk_at dksX1_cell_2 10 rfl rfl)
theorem dX1_cell_59 : decode cX1_cell 59 = .ok (.ldc 218, 2) := dk_18 218 (dk_at dksX1_cell_2 13 rfl rfl)
theorem dX1_cell_61 : decode cX1_cell 61 = .ok (.ireturn, 1) := dk_172 (dk_at dksX1_cell_2 15 rfl rfl)
theorem dX1_cell_62 : decode cX1_cell 62 = .ok (.iload_n 3, 1) := dk_29 (dk_at dksX1_cell_2 16 rfl rfl)
theorem dX1_cell_63 : decode cX1_cell 63 = .ok (.iconst 1, 1) := dk_4 (dk_at dksX1_cell_2 17 rfl rfl)
theorem dX1_cell_64 : decode cX1_cell 64 = .ok (.if_icmp .ne 12, 3) := dk_160 0 12 (dk_at dksX1_cell_2 18 rfl rfl)
theorem dX1_cell_67 : decode cX1_cell 67 = .ok (.aload_n 0, 1) := dk_42 (dk_at dksX1_cell_2 21 rfl rfl)
theorem dX1_cell_68 : decode cX1_cell 68 = .ok (.getfield 7, 3) := dk_180 0 7 (dk_at dksX1_cell_3 0 rfl rfl)
theorem dX1_cell_71 : decode cX1_cell 71 = .ok (.iload_n 2, 1) := dk_28 (dk_at dksX1_cell_3 3 rfl rfl)
theorem dX1_cell_72 : decode cX1_cell 72 = .ok (.invokestatic 60, 3) := dk_184 0 60 (dk_at dksX1_cell_3 4 rfl rfl)
theorem dX1_cell_75 : decode cX1_cell 75 = .ok (.ireturn, 1) := dk_172 (dk_at dksX1_cell_3 7 rfl rfl)
theorem dX1_cell_76 : decode cX1_cell 76 = .ok (.iload_n 3, 1) := dk_29 (dk_at dksX1_cell_3 8 rfl rfl)
theorem dX1_cell_77 : decode cX1_cell 77 = .ok (.iconst 2, 1) := dk_5 (dk_at dksX1_cell_3 9 rfl rfl)
theorem dX1_cell_78 : decode cX1_cell 78 = .ok (.if_icmp .ne 20, 3) := dk_160 0 20 (dk_at dksX1_cell_3 10 rfl rfl)
theorem dX1_cell_81 : decode cX1_cell 81 = .ok (.aload_n 0, 1) := dk_42 (dk_at dksX1_cell_3 13 rfl rfl)
theorem dX1_cell_82 : decode cX1_cell 82 = .ok (.getfield 7, 3) := dk_180 0 7 (dk_at dksX1_cell_3 14 rfl rfl)
theorem dX1_cell_85 : decode cX1_cell 85 = .ok (.aload_n 0, 1) := dk_42 (dk_at dksX1_cell_3 17 rfl rfl)
theorem dX1_cell_86 : decode cX1_cell 86 = .ok (.getfield 7, 3) := dk_180 0 7 (dk_at dksX1_cell_3 18 rfl rfl)
theorem dX1_cell_89 : decode cX1_cell 89 = .ok (.iload_n 2, 1) := dk_28 (dk_at dksX1_cell_3 21 rfl rfl)
theorem dX1_cell_90 : decode cX1_cell 90 = .ok (.iconst 0, 1) := dk_3 (dk_at dksX1_cell_3 22 rfl rfl)
theorem dX1_cell_91 : decode cX1_cell 91 = .ok (.invokestatic 64, 3) := dk_184 0 64 (dk_at dksX1_cell_4 0 rfl rfl)
theorem dX1_cell_94 : decode cX1_cell 94 = .ok (.invokestatic 188, 3) := dk_184 0 188 (dk_at dksX1_cell_4 3 rfl rfl)
theorem dX1_cell_97 : decode cX1_cell 97 = .ok (.ireturn, 1) := dk_172 (dk_at dksX1_cell_4 6 rfl rfl)
theorem dX1_cell_98 : decode cX1_cell 98 = .ok (.iload_n 3, 1) := dk_29 (dk_at dksX1_cell_4 7 rfl rfl)
theorem dX1_cell_99 : decode cX1_cell 99 = .ok (.i2l, 1) := dk_133 (dk_at dksX1_cell_4 8 rfl rfl)
theorem dX1_cell_100 : decode cX1_cell 100 = .ok (.ldc2_w 284, 3) := dk_20 1 28 (dk_at dksX1_cell_4 9 rfl rfl)
theorem dX1_cell_103 : decode cX1_cell 103 = .ok (.ldc2_w 286, 3) := dk_20 1 30 (dk_at dksX1_cell_4 12 rfl rfl)
theorem dX1_cell_106 : decode cX1_cell 106 = .ok (.invokestatic 150, 3) := dk_184 0 150 (dk_at dksX1_cell_4 15 rfl rfl)
theorem dX1_cell_109 : decode cX1_cell 109 = .ok (.ifCond .ne 8, 3) := dk_154 0 8 (dk_at dksX1_cell_4 18 rfl rfl)
theorem dX1_cell_112 : decode cX1_cell 112 = .ok (.ldc 218, 2) := dk_18 218 (dk_at dksX1_cell_4 21 rfl rfl)
theorem dX1_cell_114 : decode cX1_cell 114 = .ok (.goto 40, 3) := dk_167 0 40 (dk_at dksX1_cell_5 0 rfl rfl)
theorem dX1_cell_117 : decode cX1_cell 117 = .ok (.iload_n 3, 1) := dk_29 (dk_at dksX1_cell_5 3 rfl rfl)
theorem dX1_cell_118 : decode cX1_cell 118 = .ok (.bipush 10, 2) := dk_16 10 (dk_at dksX1_cell_5 4 rfl rfl)
theorem dX1_cell_120 : decode cX1_cell 120 = .ok (.isub, 1) := dk_100 (dk_at dksX1_cell_5 6 rfl rfl)
theorem dX1_cell_121 : decode cX1_cell 121 = .ok (.aload_n 0, 1) := dk_42 (dk_at dksX1_cell_5 7 rfl rfl)
theorem dX1_cell_122 : decode cX1_cell 122 = .ok (.getfield 7, 3) := dk_180 0 7 (dk_at dksX1_cell_5 8 rfl rfl)
theorem dX1_cell_125 : decode cX1_cell 125 = .ok (.iload_n 2, 1) := dk_28 (dk_at dksX1_cell_5 11 rfl rfl)
theorem dX1_cell_126 : decode cX1_cell 126 = .ok (.invokestatic 60, 3) := dk_184 0 60 (dk_at dksX1_cell_5 12 rfl rfl)
theorem dX1_cell_129 : decode cX1_cell 129 = .ok (.if_icmp .ge 22, 3) := dk_162 0 22 (dk_at dksX1_cell_5 15 rfl rfl)
theorem dX1_cell_132 : decode cX1_cell 132 = .ok (.aload_n 0, 1) := dk_42 (dk_at dksX1_cell_5 18 rfl rfl)
theorem dX1_cell_133 : decode cX1_cell 133 = .ok (.aload_n 0, 1) := dk_42 (dk_at dksX1_cell_5 19 rfl rfl)
theorem dX1_cell_134 : decode cX1_cell 134 = .ok (.getfield 7, 3) := dk_180 0 7 (dk_at dksX1_cell_5 20 rfl rfl)
theorem dX1_cell_137 : decode cX1_cell 137 = .ok (.iload_n 2, 1) := dk_28 (dk_at dksX1_cell_5 23 rfl rfl)
theorem dX1_cell_138 : decode cX1_cell 138 = .ok (.iload_n 3, 1) := dk_29 (dk_at dksX1_cell_6 0 rfl rfl)
theorem dX1_cell_139 : decode cX1_cell 139 = .ok (.bipush 10, 2) := dk_16 10 (dk_at dksX1_cell_6 1 rfl rfl)
theorem dX1_cell_141 : decode cX1_cell 141 = .ok (.isub, 1) := dk_100 (dk_at dksX1_cell_6 3 rfl rfl)
theorem dX1_cell_142 : decode cX1_cell 142 = .ok (.invokestatic 64, 3) := dk_184 0 64 (dk_at dksX1_cell_6 4 rfl rfl)
theorem dX1_cell_145 : decode cX1_cell 145 = .ok (.invokevirtual 288, 3) := dk_182 1 32 (dk_at dksX1_cell_6 7 rfl rfl)
theorem dX1_cell_148 : decode cX1_cell 148 = .ok (.goto 6, 3) := dk_167 0 6 (dk_at dksX1_cell_6 10 rfl rfl)
theorem dX1_cell_151 : decode cX1_cell 151 = .ok (.ldc_w 291, 3) := dk_19 1 35 (dk_at dksX1_cell_6 13 rfl rfl)
theorem dX1_cell_154 : decode cX1_cell 154 = .ok (.ireturn, 1) := dk_172 (dk_at dksX1_cell_6 16 rfl rfl)
abbrev cX1_code : ByteArray := prog_14_method_68_code
def yX1_code : MethodName := ⟨RX1, "code", "(I)I"⟩
def dkwX1_code_0 : List UInt8 := [27, 156, 0, 12, 16, 65, 27, 100, 4, 100, 167, 0, 9, 16, 97, 27, 96, 4, 100, 172]
abbrev dktX1_code_0 : List UInt8 := dkwX1_code_0 ++ []
theorem dksX1_code_0 : cX1_code.data.toList.drop 0 = dktX1_code_0 := by decide +kernel
theorem dX1_code_0 : decode cX1_code 0 = .ok (.iload_n 1, 1) := dk_27 (dk_at dksX1_code_0 0 rfl rfl)
theorem dX1_code_1 : decode cX1_code 1 = .ok (.ifCond .ge 12, 3) := dk_156 0 12 (dk_at dksX1_code_0 1 rfl rfl)
theorem dX1_code_4 : decode cX1_code 4 = .ok (.bipush 65, 2) := dk_16 65 (dk_at dksX1_code_0 4 rfl rfl)
theorem dX1_code_6 : decode cX1_code 6 = .ok (.iload_n 1, 1) := dk_27 (dk_at dksX1_code_0 6 rfl rfl)
theorem dX1_code_7 : decode cX1_code 7 = .ok (.isub, 1) := dk_100 (dk_at dksX1_code_0 7 rfl rfl)
theorem dX1_code_8 : decode cX1_code 8 = .ok (.iconst 1, 1) := dk_4 (dk_at dksX1_code_0 8 rfl rfl)
theorem dX1_code_9 : decode cX1_code 9 = .ok (.isub, 1) := dk_100 (dk_at dksX1_code_0 9 rfl rfl)
theorem dX1_code_10 : decode cX1_code 10 = .ok (.goto 9, 3) := dk_167 0 9 (dk_at dksX1_code_0 10 rfl rfl)
theorem dX1_code_13 : decode cX1_code 13 = .ok (.bipush 97, 2) := dk_16 97 (dk_at dksX1_code_0 13 rfl rfl)
theorem dX1_code_15 : decode cX1_code 15 = .ok (.iload_n 1, 1) := dk_27 (dk_at dksX1_code_0 15 rfl rfl)
theorem dX1_code_16 : decode cX1_code 16 = .ok (.iadd, 1) := dk_96 (dk_at dksX1_code_0 16 rfl rfl)
theorem dX1_code_17 : decode cX1_code 17 = .ok (.iconst 1, 1) := dk_4 (dk_at dksX1_code_0 17 rfl rfl)
theorem dX1_code_18 : decode cX1_code 18 = .ok (.isub, 1) := dk_100 (dk_at dksX1_code_0 18 rfl rfl)
theorem dX1_code_19 : decode cX1_code 19 = .ok (.ireturn, 1) := dk_172 (dk_at dksX1_code_0 19 rfl rfl)
abbrev cX1_as : ByteArray := prog_14_method_71_code
def yX1_as : MethodName := ⟨RX1, "as", "(III)I"⟩
def dkwX1_as_4 : List UInt8 := [4, 167, 0, 4, 3, 54, 4, 21, 4, 153, 0, 7, 28, 167, 0, 6, 19, 1, 35, 172]
abbrev dktX1_as_4 : List UInt8 := dkwX1_as_4 ++ []
def dkwX1_as_3 : List UInt8 := [184, 0, 56, 159, 0, 21, 29, 8, 160, 0, 20, 27, 5, 160, 0, 15, 42, 28, 182, 1, 38, 153, 0, 7]
abbrev dktX1_as_3 : List UInt8 := dkwX1_as_3 ++ dktX1_as_4
def dkwX1_as_2 : List UInt8 := [160, 0, 29, 27, 4, 160, 0, 24, 42, 180, 0, 7, 28, 3, 184, 0, 56, 42, 180, 0, 7, 28, 4]
abbrev dktX1_as_2 : List UInt8 := dkwX1_as_2 ++ dktX1_as_3
def dkwX1_as_1 : List UInt8 := [29, 153, 0, 68, 29, 27, 5, 160, 0, 7, 7, 167, 0, 6, 27, 4, 96, 159, 0, 52, 29, 6]
abbrev dktX1_as_1 : List UInt8 := dkwX1_as_1 ++ dktX1_as_2
def dkwX1_as_0 : List UInt8 := [42, 27, 28, 182, 0, 247, 153, 0, 15, 29, 133, 9, 20, 1, 36, 184, 0, 150, 154, 0, 6, 18, 218, 172]
abbrev dktX1_as_0 : List UInt8 := dkwX1_as_0 ++ dktX1_as_1
theorem dksX1_as_0 : cX1_as.data.toList.drop 0 = dktX1_as_0 := by decide +kernel
theorem dksX1_as_1 : cX1_as.data.toList.drop 24 = dktX1_as_1 := dk_seg dksX1_as_0 24 rfl rfl
theorem dksX1_as_2 : cX1_as.data.toList.drop 46 = dktX1_as_2 := dk_seg dksX1_as_1 22 rfl rfl
theorem dksX1_as_3 : cX1_as.data.toList.drop 69 = dktX1_as_3 := dk_seg dksX1_as_2 23 rfl rfl
theorem dksX1_as_4 : cX1_as.data.toList.drop 93 = dktX1_as_4 := dk_seg dksX1_as_3 24 rfl rfl
theorem dX1_as_0 : decode cX1_as 0 = .ok (.aload_n 0, 1) := dk_42 (dk_at dksX1_as_0 0 rfl rfl)
theorem dX1_as_1 : decode cX1_as 1 = .ok (.iload_n 1, 1) := dk_27 (dk_at dksX1_as_0 1 rfl rfl)
theorem dX1_as_2 : decode cX1_as 2 = .ok (.iload_n 2, 1) := dk_28 (dk_at dksX1_as_0 2 rfl rfl)
theorem dX1_as_3 : decode cX1_as 3 = .ok (.invokevirtual 247, 3) := dk_182 0 247 (dk_at dksX1_as_0 3 rfl rfl)
theorem dX1_as_6 : decode cX1_as 6 = .ok (.ifCond .eq 15, 3) := dk_153 0 15 (dk_at dksX1_as_0 6 rfl rfl)
theorem dX1_as_9 : decode cX1_as 9 = .ok (.iload_n 3, 1) := dk_29 (dk_at dksX1_as_0 9 rfl rfl)
theorem dX1_as_10 : decode cX1_as 10 = .ok (.i2l, 1) := dk_133 (dk_at dksX1_as_0 10 rfl rfl)
theorem dX1_as_11 : decode cX1_as 11 = .ok (.lconst 0, 1) := dk_9 (dk_at dksX1_as_0 11 rfl rfl)
theorem dX1_as_12 : decode cX1_as 12 = .ok (.ldc2_w 292, 3) := dk_20 1 36 (dk_at dksX1_as_0 12 rfl rfl)
theorem dX1_as_15 : decode cX1_as 15 = .ok (.invokestatic 150, 3) := dk_184 0 150 (dk_at dksX1_as_0 15 rfl rfl)
theorem dX1_as_18 : decode cX1_as 18 = .ok (.ifCond .ne 6, 3) := dk_154 0 6 (dk_at dksX1_as_0 18 rfl rfl)
theorem dX1_as_21 : decode cX1_as 21 = .ok (.ldc 218, 2) := dk_18 218 (dk_at dksX1_as_0 21 rfl rfl)
theorem dX1_as_23 : decode cX1_as 23 = .ok (.ireturn, 1) := dk_172 (dk_at dksX1_as_0 23 rfl rfl)
theorem dX1_as_24 : decode cX1_as 24 = .ok (.iload_n 3, 1) := dk_29 (dk_at dksX1_as_1 0 rfl rfl)
theorem dX1_as_25 : decode cX1_as 25 = .ok (.ifCond .eq 68, 3) := dk_153 0 68 (dk_at dksX1_as_1 1 rfl rfl)
theorem dX1_as_28 : decode cX1_as 28 = .ok (.iload_n 3, 1) := dk_29 (dk_at dksX1_as_1 4 rfl rfl)
theorem dX1_as_29 : decode cX1_as 29 = .ok (.iload_n 1, 1) := dk_27 (dk_at dksX1_as_1 5 rfl rfl)
theorem dX1_as_30 : decode cX1_as 30 = .ok (.iconst 2, 1) := dk_5 (dk_at dksX1_as_1 6 rfl rfl)
theorem dX1_as_31 : decode cX1_as 31 = .ok (.if_icmp .ne 7, 3) := dk_160 0 7 (dk_at dksX1_as_1 7 rfl rfl)
theorem dX1_as_34 : decode cX1_as 34 = .ok (.iconst 4, 1) := dk_7 (dk_at dksX1_as_1 10 rfl rfl)
theorem dX1_as_35 : decode cX1_as 35 = .ok (.goto 6, 3) := dk_167 0 6 (dk_at dksX1_as_1 11 rfl rfl)
theorem dX1_as_38 : decode cX1_as 38 = .ok (.iload_n 1, 1) := dk_27 (dk_at dksX1_as_1 14 rfl rfl)
theorem dX1_as_39 : decode cX1_as 39 = .ok (.iconst 1, 1) := dk_4 (dk_at dksX1_as_1 15 rfl rfl)
theorem dX1_as_40 : decode cX1_as 40 = .ok (.iadd, 1) := dk_96 (dk_at dksX1_as_1 16 rfl rfl)
theorem dX1_as_41 : decode cX1_as 41 = .ok (.if_icmp .eq 52, 3) := dk_159 0 52 (dk_at dksX1_as_1 17 rfl rfl)
theorem dX1_as_44 : decode cX1_as 44 = .ok (.iload_n 3, 1) := dk_29 (dk_at dksX1_as_1 20 rfl rfl)
theorem dX1_as_45 : decode cX1_as 45 = .ok (.iconst 3, 1) := dk_6 (dk_at dksX1_as_1 21 rfl rfl)
theorem dX1_as_46 : decode cX1_as 46 = .ok (.if_icmp .ne 29, 3) := dk_160 0 29 (dk_at dksX1_as_2 0 rfl rfl)
theorem dX1_as_49 : decode cX1_as 49 = .ok (.iload_n 1, 1) := dk_27 (dk_at dksX1_as_2 3 rfl rfl)
theorem dX1_as_50 : decode cX1_as 50 = .ok (.iconst 1, 1) := dk_4 (dk_at dksX1_as_2 4 rfl rfl)
theorem dX1_as_51 : decode cX1_as 51 = .ok (.if_icmp .ne 24, 3) := dk_160 0 24 (dk_at dksX1_as_2 5 rfl rfl)
theorem dX1_as_54 : decode cX1_as 54 = .ok (.aload_n 0, 1) := dk_42 (dk_at dksX1_as_2 8 rfl rfl)
theorem dX1_as_55 : decode cX1_as 55 = .ok (.getfield 7, 3) := dk_180 0 7 (dk_at dksX1_as_2 9 rfl rfl)
theorem dX1_as_58 : decode cX1_as 58 = .ok (.iload_n 2, 1) := dk_28 (dk_at dksX1_as_2 12 rfl rfl)
theorem dX1_as_59 : decode cX1_as 59 = .ok (.iconst 0, 1) := dk_3 (dk_at dksX1_as_2 13 rfl rfl)
theorem dX1_as_60 : decode cX1_as 60 = .ok (.invokestatic 56, 3) := dk_184 0 56 (dk_at dksX1_as_2 14 rfl rfl)
theorem dX1_as_63 : decode cX1_as 63 = .ok (.aload_n 0, 1) := dk_42 (dk_at dksX1_as_2 17 rfl rfl)
theorem dX1_as_64 : decode cX1_as 64 = .ok (.getfield 7, 3) := dk_180 0 7 (dk_at dksX1_as_2 18 rfl rfl)
theorem dX1_as_67 : decode cX1_as 67 = .ok (.iload_n 2, 1) := dk_28 (dk_at dksX1_as_2 21 rfl rfl)
theorem dX1_as_68 : decode cX1_as 68 = .ok (.iconst 1, 1) := dk_4 (dk_at dksX1_as_2 22 rfl rfl)
theorem dX1_as_69 : decode cX1_as 69 = .ok (.invokestatic 56, 3) := dk_184 0 56 (dk_at dksX1_as_3 0 rfl rfl)
theorem dX1_as_72 : decode cX1_as 72 = .ok (.if_icmp .eq 21, 3) := dk_159 0 21 (dk_at dksX1_as_3 3 rfl rfl)
theorem dX1_as_75 : decode cX1_as 75 = .ok (.iload_n 3, 1) := dk_29 (dk_at dksX1_as_3 6 rfl rfl)
theorem dX1_as_76 : decode cX1_as 76 = .ok (.iconst 5, 1) := dk_8 (dk_at dksX1_as_3 7 rfl rfl)
theorem dX1_as_77 : decode cX1_as 77 = .ok (.if_icmp .ne 20, 3) := dk_160 0 20 (dk_at dksX1_as_3 8 rfl rfl)
theorem dX1_as_80 : decode cX1_as 80 = .ok (.iload_n 1, 1) := dk_27 (dk_at dksX1_as_3 11 rfl rfl)
theorem dX1_as_81 : decode cX1_as 81 = .ok (.iconst 2, 1) := dk_5 (dk_at dksX1_as_3 12 rfl rfl)
theorem dX1_as_82 : decode cX1_as 82 = .ok (.if_icmp .ne 15, 3) := dk_160 0 15 (dk_at dksX1_as_3 13 rfl rfl)
theorem dX1_as_85 : decode cX1_as 85 = .ok (.aload_n 0, 1) := dk_42 (dk_at dksX1_as_3 16 rfl rfl)
theorem dX1_as_86 : decode cX1_as 86 = .ok (.iload_n 2, 1) := dk_28 (dk_at dksX1_as_3 17 rfl rfl)
theorem dX1_as_87 : decode cX1_as 87 = .ok (.invokevirtual 294, 3) := dk_182 1 38 (dk_at dksX1_as_3 18 rfl rfl)
theorem dX1_as_90 : decode cX1_as 90 = .ok (.ifCond .eq 7, 3) := dk_153 0 7 (dk_at dksX1_as_3 21 rfl rfl)
theorem dX1_as_93 : decode cX1_as 93 = .ok (.iconst 1, 1) := dk_4 (dk_at dksX1_as_4 0 rfl rfl)
theorem dX1_as_94 : decode cX1_as 94 = .ok (.goto 4, 3) := dk_167 0 4 (dk_at dksX1_as_4 1 rfl rfl)
theorem dX1_as_97 : decode cX1_as 97 = .ok (.iconst 0, 1) := dk_3 (dk_at dksX1_as_4 4 rfl rfl)
theorem dX1_as_98 : decode cX1_as 98 = .ok (.istore 4, 2) := dk_54 4 (dk_at dksX1_as_4 5 rfl rfl)
theorem dX1_as_100 : decode cX1_as 100 = .ok (.iload 4, 2) := dk_21 4 (dk_at dksX1_as_4 7 rfl rfl)
theorem dX1_as_102 : decode cX1_as 102 = .ok (.ifCond .eq 7, 3) := dk_153 0 7 (dk_at dksX1_as_4 9 rfl rfl)
theorem dX1_as_105 : decode cX1_as 105 = .ok (.iload_n 2, 1) := dk_28 (dk_at dksX1_as_4 12 rfl rfl)
theorem dX1_as_106 : decode cX1_as 106 = .ok (.goto 6, 3) := dk_167 0 6 (dk_at dksX1_as_4 13 rfl rfl)
theorem dX1_as_109 : decode cX1_as 109 = .ok (.ldc_w 291, 3) := dk_19 1 35 (dk_at dksX1_as_4 16 rfl rfl)
theorem dX1_as_112 : decode cX1_as 112 = .ok (.ireturn, 1) := dk_172 (dk_at dksX1_as_4 19 rfl rfl)
abbrev cX1_isSealed : ByteArray := prog_14_method_70_code
def yX1_isSealed : MethodName := ⟨RX1, "isSealed", "(I)Z"⟩
def dkwX1_isSealed_1 : List UInt8 := [154, 0, 7, 4, 167, 0, 4, 3, 61, 132, 3, 1, 167, 255, 224, 28, 172]
abbrev dktX1_isSealed_1 : List UInt8 := dkwX1_isSealed_1 ++ []
def dkwX1_isSealed_0 : List UInt8 := [4, 61, 3, 62, 29, 42, 180, 0, 7, 4, 46, 162, 0, 28, 28, 153, 0, 16, 42, 29, 27, 182, 0, 71]
abbrev dktX1_isSealed_0 : List UInt8 := dkwX1_isSealed_0 ++ dktX1_isSealed_1
theorem dksX1_isSealed_0 : cX1_isSealed.data.toList.drop 0 = dktX1_isSealed_0 := by decide +kernel
theorem dksX1_isSealed_1 : cX1_isSealed.data.toList.drop 24 = dktX1_isSealed_1 := dk_seg dksX1_isSealed_0 24 rfl rfl
theorem dX1_isSealed_0 : decode cX1_isSealed 0 = .ok (.iconst 1, 1) := dk_4 (dk_at dksX1_isSealed_0 0 rfl rfl)
theorem dX1_isSealed_1 : decode cX1_isSealed 1 = .ok (.istore_n 2, 1) := dk_61 (dk_at dksX1_isSealed_0 1 rfl rfl)
theorem dX1_isSealed_2 : decode cX1_isSealed 2 = .ok (.iconst 0, 1) := dk_3 (dk_at dksX1_isSealed_0 2 rfl rfl)
theorem dX1_isSealed_3 : decode cX1_isSealed 3 = .ok (.istore_n 3, 1) := dk_62 (dk_at dksX1_isSealed_0 3 rfl rfl)
theorem dX1_isSealed_4 : decode cX1_isSealed 4 = .ok (.iload_n 3, 1) := dk_29 (dk_at dksX1_isSealed_0 4 rfl rfl)
theorem dX1_isSealed_5 : decode cX1_isSealed 5 = .ok (.aload_n 0, 1) := dk_42 (dk_at dksX1_isSealed_0 5 rfl rfl)
theorem dX1_isSealed_6 : decode cX1_isSealed 6 = .ok (.getfield 7, 3) := dk_180 0 7 (dk_at dksX1_isSealed_0 6 rfl rfl)
theorem dX1_isSealed_9 : decode cX1_isSealed 9 = .ok (.iconst 1, 1) := dk_4 (dk_at dksX1_isSealed_0 9 rfl rfl)
theorem dX1_isSealed_10 : decode cX1_isSealed 10 = .ok (.iaload, 1) := dk_46 (dk_at dksX1_isSealed_0 10 rfl rfl)
theorem dX1_isSealed_11 : decode cX1_isSealed 11 = .ok (.if_icmp .ge 28, 3) := dk_162 0 28 (dk_at dksX1_isSealed_0 11 rfl rfl)
theorem dX1_isSealed_14 : decode cX1_isSealed 14 = .ok (.iload_n 2, 1) := dk_28 (dk_at dksX1_isSealed_0 14 rfl rfl)
theorem dX1_isSealed_15 : decode cX1_isSealed 15 = .ok (.ifCond .eq 16, 3) := dk_153 0 16 (dk_at dksX1_isSealed_0 15 rfl rfl)
theorem dX1_isSealed_18 : decode cX1_isSealed 18 = .ok (.aload_n 0, 1) := dk_42 (dk_at dksX1_isSealed_0 18 rfl rfl)
theorem dX1_isSealed_19 : decode cX1_isSealed 19 = .ok (.iload_n 3, 1) := dk_29 (dk_at dksX1_isSealed_0 19 rfl rfl)
theorem dX1_isSealed_20 : decode cX1_isSealed 20 = .ok (.iload_n 1, 1) := dk_27 (dk_at dksX1_isSealed_0 20 rfl rfl)
theorem dX1_isSealed_21 : decode cX1_isSealed 21 = .ok (.invokevirtual 71, 3) := dk_182 0 71 (dk_at dksX1_isSealed_0 21 rfl rfl)
theorem dX1_isSealed_24 : decode cX1_isSealed 24 = .ok (.ifCond .ne 7, 3) := dk_154 0 7 (dk_at dksX1_isSealed_1 0 rfl rfl)
theorem dX1_isSealed_27 : decode cX1_isSealed 27 = .ok (.iconst 1, 1) := dk_4 (dk_at dksX1_isSealed_1 3 rfl rfl)
theorem dX1_isSealed_28 : decode cX1_isSealed 28 = .ok (.goto 4, 3) := dk_167 0 4 (dk_at dksX1_isSealed_1 4 rfl rfl)
theorem dX1_isSealed_31 : decode cX1_isSealed 31 = .ok (.iconst 0, 1) := dk_3 (dk_at dksX1_isSealed_1 7 rfl rfl)
theorem dX1_isSealed_32 : decode cX1_isSealed 32 = .ok (.istore_n 2, 1) := dk_61 (dk_at dksX1_isSealed_1 8 rfl rfl)
theorem dX1_isSealed_33 : decode cX1_isSealed 33 = .ok (.iinc 3 1, 3) := dk_132 3 1 (dk_at dksX1_isSealed_1 9 rfl rfl)
theorem dX1_isSealed_36 : decode cX1_isSealed 36 = .ok (.goto (-32), 3) := dk_167 255 224 (dk_at dksX1_isSealed_1 12 rfl rfl)
theorem dX1_isSealed_39 : decode cX1_isSealed 39 = .ok (.iload_n 2, 1) := dk_28 (dk_at dksX1_isSealed_1 15 rfl rfl)
theorem dX1_isSealed_40 : decode cX1_isSealed 40 = .ok (.ireturn, 1) := dk_172 (dk_at dksX1_isSealed_1 16 rfl rfl)
abbrev cX1_table : ByteArray := prog_14_method_72_code
def yX1_table : MethodName := ⟨RX1, "table", "(III)I"⟩
def dkwX1_table_2 : List UInt8 := [18, 218, 172, 42, 27, 28, 29, 182, 0, 77, 172]
abbrev dktX1_table_2 : List UInt8 := dkwX1_table_2 ++ []
def dkwX1_table_1 : List UInt8 := [184, 0, 150, 153, 0, 20, 29, 133, 9, 42, 27, 182, 0, 74, 4, 100, 133, 184, 0, 150, 154, 0, 6]
abbrev dktX1_table_1 : List UInt8 := dkwX1_table_1 ++ dktX1_table_2
def dkwX1_table_0 : List UInt8 := [27, 133, 10, 20, 0, 242, 184, 0, 150, 153, 0, 37, 28, 133, 9, 42, 27, 182, 0, 96, 4, 100, 133]
abbrev dktX1_table_0 : List UInt8 := dkwX1_table_0 ++ dktX1_table_1
theorem dksX1_table_0 : cX1_table.data.toList.drop 0 = dktX1_table_0 := by decide +kernel
theorem dksX1_table_1 : cX1_table.data.toList.drop 23 = dktX1_table_1 := dk_seg dksX1_table_0 23 rfl rfl
theorem dksX1_table_2 : cX1_table.data.toList.drop 46 = dktX1_table_2 := dk_seg dksX1_table_1 23 rfl rfl
theorem dX1_table_0 : decode cX1_table 0 = .ok (.iload_n 1, 1) := dk_27 (dk_at dksX1_table_0 0 rfl rfl)
theorem dX1_table_1 : decode cX1_table 1 = .ok (.i2l, 1) := dk_133 (dk_at dksX1_table_0 1 rfl rfl)
theorem dX1_table_2 : decode cX1_table 2 = .ok (.lconst 1, 1) := dk_10 (dk_at dksX1_table_0 2 rfl rfl)
theorem dX1_table_3 : decode cX1_table 3 = .ok (.ldc2_w 242, 3) := dk_20 0 242 (dk_at dksX1_table_0 3 rfl rfl)
theorem dX1_table_6 : decode cX1_table 6 = .ok (.invokestatic 150, 3) := dk_184 0 150 (dk_at dksX1_table_0 6 rfl rfl)
theorem dX1_table_9 : decode cX1_table 9 = .ok (.ifCond .eq 37, 3) := dk_153 0 37 (dk_at dksX1_table_0 9 rfl rfl)
theorem dX1_table_12 : decode cX1_table 12 = .ok (.iload_n 2, 1) := dk_28 (dk_at dksX1_table_0 12 rfl rfl)
theorem dX1_table_13 : decode cX1_table 13 = .ok (.i2l, 1) := dk_133 (dk_at dksX1_table_0 13 rfl rfl)
theorem dX1_table_14 : decode cX1_table 14 = .ok (.lconst 0, 1) := dk_9 (dk_at dksX1_table_0 14 rfl rfl)
theorem dX1_table_15 : decode cX1_table 15 = .ok (.aload_n 0, 1) := dk_42 (dk_at dksX1_table_0 15 rfl rfl)
theorem dX1_table_16 : decode cX1_table 16 = .ok (.iload_n 1, 1) := dk_27 (dk_at dksX1_table_0 16 rfl rfl)
theorem dX1_table_17 : decode cX1_table 17 = .ok (.invokevirtual 96, 3) := dk_182 0 96 (dk_at dksX1_table_0 17 rfl rfl)
theorem dX1_table_20 : decode cX1_table 20 = .ok (.iconst 1, 1) := dk_4 (dk_at dksX1_table_0 20 rfl rfl)
theorem dX1_table_21 : decode cX1_table 21 = .ok (.isub, 1) := dk_100 (dk_at dksX1_table_0 21 rfl rfl)
theorem dX1_table_22 : decode cX1_table 22 = .ok (.i2l, 1) := dk_133 (dk_at dksX1_table_0 22 rfl rfl)
theorem dX1_table_23 : decode cX1_table 23 = .ok (.invokestatic 150, 3) := dk_184 0 150 (dk_at dksX1_table_1 0 rfl rfl)
theorem dX1_table_26 : decode cX1_table 26 = .ok (.ifCond .eq 20, 3) := dk_153 0 20 (dk_at dksX1_table_1 3 rfl rfl)
theorem dX1_table_29 : decode cX1_table 29 = .ok (.iload_n 3, 1) := dk_29 (dk_at dksX1_table_1 6 rfl rfl)
theorem dX1_table_30 : decode cX1_table 30 = .ok (.i2l, 1) := dk_133 (dk_at dksX1_table_1 7 rfl rfl)
theorem dX1_table_31 : decode cX1_table 31 = .ok (.lconst 0, 1) := dk_9 (dk_at dksX1_table_1 8 rfl rfl)
theorem dX1_table_32 : decode cX1_table 32 = .ok (.aload_n 0, 1) := dk_42 (dk_at dksX1_table_1 9 rfl rfl)
theorem dX1_table_33 : decode cX1_table 33 = .ok (.iload_n 1, 1) := dk_27 (dk_at dksX1_table_1 10 rfl rfl)
theorem dX1_table_34 : decode cX1_table 34 = .ok (.invokevirtual 74, 3) := dk_182 0 74 (dk_at dksX1_table_1 11 rfl rfl)
theorem dX1_table_37 : decode cX1_table 37 = .ok (.iconst 1, 1) := dk_4 (dk_at dksX1_table_1 14 rfl rfl)
theorem dX1_table_38 : decode cX1_table 38 = .ok (.isub, 1) := dk_100 (dk_at dksX1_table_1 15 rfl rfl)
theorem dX1_table_39 : decode cX1_table 39 = .ok (.i2l, 1) := dk_133 (dk_at dksX1_table_1 16 rfl rfl)
theorem dX1_table_40 : decode cX1_table 40 = .ok (.invokestatic 150, 3) := dk_184 0 150 (dk_at dksX1_table_1 17 rfl rfl)
theorem dX1_table_43 : decode cX1_table 43 = .ok (.ifCond .ne 6, 3) := dk_154 0 6 (dk_at dksX1_table_1 20 rfl rfl)
theorem dX1_table_46 : decode cX1_table 46 = .ok (.ldc 218, 2) := dk_18 218 (dk_at dksX1_table_2 0 rfl rfl)
theorem dX1_table_48 : decode cX1_table 48 = .ok (.ireturn, 1) := dk_172 (dk_at dksX1_table_2 2 rfl rfl)
theorem dX1_table_49 : decode cX1_table 49 = .ok (.aload_n 0, 1) := dk_42 (dk_at dksX1_table_2 3 rfl rfl)
theorem dX1_table_50 : decode cX1_table 50 = .ok (.iload_n 1, 1) := dk_27 (dk_at dksX1_table_2 4 rfl rfl)
theorem dX1_table_51 : decode cX1_table 51 = .ok (.iload_n 2, 1) := dk_28 (dk_at dksX1_table_2 5 rfl rfl)
theorem dX1_table_52 : decode cX1_table 52 = .ok (.iload_n 3, 1) := dk_29 (dk_at dksX1_table_2 6 rfl rfl)
theorem dX1_table_53 : decode cX1_table 53 = .ok (.invokevirtual 77, 3) := dk_182 0 77 (dk_at dksX1_table_2 7 rfl rfl)
theorem dX1_table_56 : decode cX1_table 56 = .ok (.ireturn, 1) := dk_172 (dk_at dksX1_table_2 10 rfl rfl)
abbrev cX1_rows : ByteArray := prog_14_method_18_code
def yX1_rows : MethodName := ⟨RX1, "rows", "(I)I"⟩
def dkwX1_rows_0 : List UInt8 := [27, 4, 160, 0, 12, 42, 180, 0, 7, 3, 46, 167, 0, 9, 42, 180, 0, 7, 4, 46, 172]
abbrev dktX1_rows_0 : List UInt8 := dkwX1_rows_0 ++ []
theorem dksX1_rows_0 : cX1_rows.data.toList.drop 0 = dktX1_rows_0 := by decide +kernel
theorem dX1_rows_0 : decode cX1_rows 0 = .ok (.iload_n 1, 1) := dk_27 (dk_at dksX1_rows_0 0 rfl rfl)
theorem dX1_rows_1 : decode cX1_rows 1 = .ok (.iconst 1, 1) := dk_4 (dk_at dksX1_rows_0 1 rfl rfl)
theorem dX1_rows_2 : decode cX1_rows 2 = .ok (.if_icmp .ne 12, 3) := dk_160 0 12 (dk_at dksX1_rows_0 2 rfl rfl)
theorem dX1_rows_5 : decode cX1_rows 5 = .ok (.aload_n 0, 1) := dk_42 (dk_at dksX1_rows_0 5 rfl rfl)
theorem dX1_rows_6 : decode cX1_rows 6 = .ok (.getfield 7, 3) := dk_180 0 7 (dk_at dksX1_rows_0 6 rfl rfl)
theorem dX1_rows_9 : decode cX1_rows 9 = .ok (.iconst 0, 1) := dk_3 (dk_at dksX1_rows_0 9 rfl rfl)
theorem dX1_rows_10 : decode cX1_rows 10 = .ok (.iaload, 1) := dk_46 (dk_at dksX1_rows_0 10 rfl rfl)
theorem dX1_rows_11 : decode cX1_rows 11 = .ok (.goto 9, 3) := dk_167 0 9 (dk_at dksX1_rows_0 11 rfl rfl)
theorem dX1_rows_14 : decode cX1_rows 14 = .ok (.aload_n 0, 1) := dk_42 (dk_at dksX1_rows_0 14 rfl rfl)
theorem dX1_rows_15 : decode cX1_rows 15 = .ok (.getfield 7, 3) := dk_180 0 7 (dk_at dksX1_rows_0 15 rfl rfl)
theorem dX1_rows_18 : decode cX1_rows 18 = .ok (.iconst 1, 1) := dk_4 (dk_at dksX1_rows_0 18 rfl rfl)
theorem dX1_rows_19 : decode cX1_rows 19 = .ok (.iaload, 1) := dk_46 (dk_at dksX1_rows_0 19 rfl rfl)
theorem dX1_rows_20 : decode cX1_rows 20 = .ok (.ireturn, 1) := dk_172 (dk_at dksX1_rows_0 20 rfl rfl)
abbrev cX1_columns : ByteArray := prog_14_method_19_code
def yX1_columns : MethodName := ⟨RX1, "columns", "(I)I"⟩
def dkwX1_columns_0 : List UInt8 := [27, 4, 160, 0, 12, 42, 180, 0, 7, 4, 46, 167, 0, 9, 42, 180, 0, 7, 5, 46, 172]
abbrev dktX1_columns_0 : List UInt8 := dkwX1_columns_0 ++ []
theorem dksX1_columns_0 : cX1_columns.data.toList.drop 0 = dktX1_columns_0 := by decide +kernel
theorem dX1_columns_0 : decode cX1_columns 0 = .ok (.iload_n 1, 1) := dk_27 (dk_at dksX1_columns_0 0 rfl rfl)
theorem dX1_columns_1 : decode cX1_columns 1 = .ok (.iconst 1, 1) := dk_4 (dk_at dksX1_columns_0 1 rfl rfl)
theorem dX1_columns_2 : decode cX1_columns 2 = .ok (.if_icmp .ne 12, 3) := dk_160 0 12 (dk_at dksX1_columns_0 2 rfl rfl)
theorem dX1_columns_5 : decode cX1_columns 5 = .ok (.aload_n 0, 1) := dk_42 (dk_at dksX1_columns_0 5 rfl rfl)
theorem dX1_columns_6 : decode cX1_columns 6 = .ok (.getfield 7, 3) := dk_180 0 7 (dk_at dksX1_columns_0 6 rfl rfl)
theorem dX1_columns_9 : decode cX1_columns 9 = .ok (.iconst 1, 1) := dk_4 (dk_at dksX1_columns_0 9 rfl rfl)
theorem dX1_columns_10 : decode cX1_columns 10 = .ok (.iaload, 1) := dk_46 (dk_at dksX1_columns_0 10 rfl rfl)
theorem dX1_columns_11 : decode cX1_columns 11 = .ok (.goto 9, 3) := dk_167 0 9 (dk_at dksX1_columns_0 11 rfl rfl)
theorem dX1_columns_14 : decode cX1_columns 14 = .ok (.aload_n 0, 1) := dk_42 (dk_at dksX1_columns_0 14 rfl rfl)
theorem dX1_columns_15 : decode cX1_columns 15 = .ok (.getfield 7, 3) := dk_180 0 7 (dk_at dksX1_columns_0 15 rfl rfl)
theorem dX1_columns_18 : decode cX1_columns 18 = .ok (.iconst 2, 1) := dk_5 (dk_at dksX1_columns_0 18 rfl rfl)
theorem dX1_columns_19 : decode cX1_columns 19 = .ok (.iaload, 1) := dk_46 (dk_at dksX1_columns_0 19 rfl rfl)
theorem dX1_columns_20 : decode cX1_columns 20 = .ok (.ireturn, 1) := dk_172 (dk_at dksX1_columns_0 20 rfl rfl)
abbrev cX1_entry : ByteArray := prog_14_method_20_code
def yX1_entry : MethodName := ⟨RX1, "entry", "(III)I"⟩
def dkwX1_entry_0 : List UInt8 := [27, 4, 160, 0, 12, 42, 28, 29, 182, 0, 67, 167, 0, 9, 42, 28, 29, 182, 0, 71, 172]
abbrev dktX1_entry_0 : List UInt8 := dkwX1_entry_0 ++ []
theorem dksX1_entry_0 : cX1_entry.data.toList.drop 0 = dktX1_entry_0 := by decide +kernel
theorem dX1_entry_0 : decode cX1_entry 0 = .ok (.iload_n 1, 1) := dk_27 (dk_at dksX1_entry_0 0 rfl rfl)
theorem dX1_entry_1 : decode cX1_entry 1 = .ok (.iconst 1, 1) := dk_4 (dk_at dksX1_entry_0 1 rfl rfl)
theorem dX1_entry_2 : decode cX1_entry 2 = .ok (.if_icmp .ne 12, 3) := dk_160 0 12 (dk_at dksX1_entry_0 2 rfl rfl)
theorem dX1_entry_5 : decode cX1_entry 5 = .ok (.aload_n 0, 1) := dk_42 (dk_at dksX1_entry_0 5 rfl rfl)
theorem dX1_entry_6 : decode cX1_entry 6 = .ok (.iload_n 2, 1) := dk_28 (dk_at dksX1_entry_0 6 rfl rfl)
theorem dX1_entry_7 : decode cX1_entry 7 = .ok (.iload_n 3, 1) := dk_29 (dk_at dksX1_entry_0 7 rfl rfl)
theorem dX1_entry_8 : decode cX1_entry 8 = .ok (.invokevirtual 67, 3) := dk_182 0 67 (dk_at dksX1_entry_0 8 rfl rfl)
theorem dX1_entry_11 : decode cX1_entry 11 = .ok (.goto 9, 3) := dk_167 0 9 (dk_at dksX1_entry_0 11 rfl rfl)
theorem dX1_entry_14 : decode cX1_entry 14 = .ok (.aload_n 0, 1) := dk_42 (dk_at dksX1_entry_0 14 rfl rfl)
theorem dX1_entry_15 : decode cX1_entry 15 = .ok (.iload_n 2, 1) := dk_28 (dk_at dksX1_entry_0 15 rfl rfl)
theorem dX1_entry_16 : decode cX1_entry 16 = .ok (.iload_n 3, 1) := dk_29 (dk_at dksX1_entry_0 16 rfl rfl)
theorem dX1_entry_17 : decode cX1_entry 17 = .ok (.invokevirtual 71, 3) := dk_182 0 71 (dk_at dksX1_entry_0 17 rfl rfl)
theorem dX1_entry_20 : decode cX1_entry 20 = .ok (.ireturn, 1) := dk_172 (dk_at dksX1_entry_0 20 rfl rfl)
abbrev cX1_one : ByteArray := prog_14_method_16_code
def yX1_one : MethodName := ⟨RX1, "one", "(II)I"⟩
def dkwX1_one_1 : List UInt8 := [184, 0, 56, 27, 160, 0, 7, 4, 167, 0, 4, 3, 100, 172]
abbrev dktX1_one_1 : List UInt8 := dkwX1_one_1 ++ []
def dkwX1_one_0 : List UInt8 := [42, 180, 0, 7, 28, 4, 184, 0, 56, 27, 160, 0, 7, 4, 167, 0, 4, 3, 42, 180, 0, 7, 28, 3]
abbrev dktX1_one_0 : List UInt8 := dkwX1_one_0 ++ dktX1_one_1
theorem dksX1_one_0 : cX1_one.data.toList.drop 0 = dktX1_one_0 := by decide +kernel
theorem dksX1_one_1 : cX1_one.data.toList.drop 24 = dktX1_one_1 := dk_seg dksX1_one_0 24 rfl rfl
theorem dX1_one_0 : decode cX1_one 0 = .ok (.aload_n 0, 1) := dk_42 (dk_at dksX1_one_0 0 rfl rfl)
theorem dX1_one_1 : decode cX1_one 1 = .ok (.getfield 7, 3) := dk_180 0 7 (dk_at dksX1_one_0 1 rfl rfl)
theorem dX1_one_4 : decode cX1_one 4 = .ok (.iload_n 2, 1) := dk_28 (dk_at dksX1_one_0 4 rfl rfl)
theorem dX1_one_5 : decode cX1_one 5 = .ok (.iconst 1, 1) := dk_4 (dk_at dksX1_one_0 5 rfl rfl)
theorem dX1_one_6 : decode cX1_one 6 = .ok (.invokestatic 56, 3) := dk_184 0 56 (dk_at dksX1_one_0 6 rfl rfl)
theorem dX1_one_9 : decode cX1_one 9 = .ok (.iload_n 1, 1) := dk_27 (dk_at dksX1_one_0 9 rfl rfl)
theorem dX1_one_10 : decode cX1_one 10 = .ok (.if_icmp .ne 7, 3) := dk_160 0 7 (dk_at dksX1_one_0 10 rfl rfl)
theorem dX1_one_13 : decode cX1_one 13 = .ok (.iconst 1, 1) := dk_4 (dk_at dksX1_one_0 13 rfl rfl)
theorem dX1_one_14 : decode cX1_one 14 = .ok (.goto 4, 3) := dk_167 0 4 (dk_at dksX1_one_0 14 rfl rfl)
theorem dX1_one_17 : decode cX1_one 17 = .ok (.iconst 0, 1) := dk_3 (dk_at dksX1_one_0 17 rfl rfl)
theorem dX1_one_18 : decode cX1_one 18 = .ok (.aload_n 0, 1) := dk_42 (dk_at dksX1_one_0 18 rfl rfl)
theorem dX1_one_19 : decode cX1_one 19 = .ok (.getfield 7, 3) := dk_180 0 7 (dk_at dksX1_one_0 19 rfl rfl)
theorem dX1_one_22 : decode cX1_one 22 = .ok (.iload_n 2, 1) := dk_28 (dk_at dksX1_one_0 22 rfl rfl)
theorem dX1_one_23 : decode cX1_one 23 = .ok (.iconst 0, 1) := dk_3 (dk_at dksX1_one_0 23 rfl rfl)
theorem dX1_one_24 : decode cX1_one 24 = .ok (.invokestatic 56, 3) := dk_184 0 56 (dk_at dksX1_one_1 0 rfl rfl)
theorem dX1_one_27 : decode cX1_one 27 = .ok (.iload_n 1, 1) := dk_27 (dk_at dksX1_one_1 3 rfl rfl)
theorem dX1_one_28 : decode cX1_one 28 = .ok (.if_icmp .ne 7, 3) := dk_160 0 7 (dk_at dksX1_one_1 4 rfl rfl)
theorem dX1_one_31 : decode cX1_one 31 = .ok (.iconst 1, 1) := dk_4 (dk_at dksX1_one_1 7 rfl rfl)
theorem dX1_one_32 : decode cX1_one 32 = .ok (.goto 4, 3) := dk_167 0 4 (dk_at dksX1_one_1 8 rfl rfl)
theorem dX1_one_35 : decode cX1_one 35 = .ok (.iconst 0, 1) := dk_3 (dk_at dksX1_one_1 11 rfl rfl)
theorem dX1_one_36 : decode cX1_one 36 = .ok (.isub, 1) := dk_100 (dk_at dksX1_one_1 12 rfl rfl)
theorem dX1_one_37 : decode cX1_one 37 = .ok (.ireturn, 1) := dk_172 (dk_at dksX1_one_1 13 rfl rfl)
abbrev cX1_near : ByteArray := prog_14_method_74_code
def yX1_near : MethodName := ⟨RX1, "near", "(III)I"⟩
def dkwX1_near_2 : List UInt8 := [18, 218, 172, 42, 27, 28, 29, 182, 1, 44, 172]
abbrev dktX1_near_2 : List UInt8 := dkwX1_near_2 ++ []
def dkwX1_near_1 : List UInt8 := [184, 0, 150, 153, 0, 20, 29, 133, 9, 42, 27, 182, 1, 41, 4, 100, 133, 184, 0, 150, 154, 0, 6]
abbrev dktX1_near_1 : List UInt8 := dkwX1_near_1 ++ dktX1_near_2
def dkwX1_near_0 : List UInt8 := [27, 133, 9, 20, 0, 242, 184, 0, 150, 153, 0, 37, 28, 133, 9, 42, 27, 182, 1, 41, 4, 100, 133]
abbrev dktX1_near_0 : List UInt8 := dkwX1_near_0 ++ dktX1_near_1
theorem dksX1_near_0 : cX1_near.data.toList.drop 0 = dktX1_near_0 := by decide +kernel
theorem dksX1_near_1 : cX1_near.data.toList.drop 23 = dktX1_near_1 := dk_seg dksX1_near_0 23 rfl rfl
theorem dksX1_near_2 : cX1_near.data.toList.drop 46 = dktX1_near_2 := dk_seg dksX1_near_1 23 rfl rfl
theorem dX1_near_0 : decode cX1_near 0 = .ok (.iload_n 1, 1) := dk_27 (dk_at dksX1_near_0 0 rfl rfl)
theorem dX1_near_1 : decode cX1_near 1 = .ok (.i2l, 1) := dk_133 (dk_at dksX1_near_0 1 rfl rfl)
theorem dX1_near_2 : decode cX1_near 2 = .ok (.lconst 0, 1) := dk_9 (dk_at dksX1_near_0 2 rfl rfl)
theorem dX1_near_3 : decode cX1_near 3 = .ok (.ldc2_w 242, 3) := dk_20 0 242 (dk_at dksX1_near_0 3 rfl rfl)
theorem dX1_near_6 : decode cX1_near 6 = .ok (.invokestatic 150, 3) := dk_184 0 150 (dk_at dksX1_near_0 6 rfl rfl)
theorem dX1_near_9 : decode cX1_near 9 = .ok (.ifCond .eq 37, 3) := dk_153 0 37 (dk_at dksX1_near_0 9 rfl rfl)
theorem dX1_near_12 : decode cX1_near 12 = .ok (.iload_n 2, 1) := dk_28 (dk_at dksX1_near_0 12 rfl rfl)
theorem dX1_near_13 : decode cX1_near 13 = .ok (.i2l, 1) := dk_133 (dk_at dksX1_near_0 13 rfl rfl)
theorem dX1_near_14 : decode cX1_near 14 = .ok (.lconst 0, 1) := dk_9 (dk_at dksX1_near_0 14 rfl rfl)
theorem dX1_near_15 : decode cX1_near 15 = .ok (.aload_n 0, 1) := dk_42 (dk_at dksX1_near_0 15 rfl rfl)
theorem dX1_near_16 : decode cX1_near 16 = .ok (.iload_n 1, 1) := dk_27 (dk_at dksX1_near_0 16 rfl rfl)
theorem dX1_near_17 : decode cX1_near 17 = .ok (.invokevirtual 297, 3) := dk_182 1 41 (dk_at dksX1_near_0 17 rfl rfl)
theorem dX1_near_20 : decode cX1_near 20 = .ok (.iconst 1, 1) := dk_4 (dk_at dksX1_near_0 20 rfl rfl)
theorem dX1_near_21 : decode cX1_near 21 = .ok (.isub, 1) := dk_100 (dk_at dksX1_near_0 21 rfl rfl)
theorem dX1_near_22 : decode cX1_near 22 = .ok (.i2l, 1) := dk_133 (dk_at dksX1_near_0 22 rfl rfl)
theorem dX1_near_23 : decode cX1_near 23 = .ok (.invokestatic 150, 3) := dk_184 0 150 (dk_at dksX1_near_1 0 rfl rfl)
theorem dX1_near_26 : decode cX1_near 26 = .ok (.ifCond .eq 20, 3) := dk_153 0 20 (dk_at dksX1_near_1 3 rfl rfl)
theorem dX1_near_29 : decode cX1_near 29 = .ok (.iload_n 3, 1) := dk_29 (dk_at dksX1_near_1 6 rfl rfl)
theorem dX1_near_30 : decode cX1_near 30 = .ok (.i2l, 1) := dk_133 (dk_at dksX1_near_1 7 rfl rfl)
theorem dX1_near_31 : decode cX1_near 31 = .ok (.lconst 0, 1) := dk_9 (dk_at dksX1_near_1 8 rfl rfl)
theorem dX1_near_32 : decode cX1_near 32 = .ok (.aload_n 0, 1) := dk_42 (dk_at dksX1_near_1 9 rfl rfl)
theorem dX1_near_33 : decode cX1_near 33 = .ok (.iload_n 1, 1) := dk_27 (dk_at dksX1_near_1 10 rfl rfl)
theorem dX1_near_34 : decode cX1_near 34 = .ok (.invokevirtual 297, 3) := dk_182 1 41 (dk_at dksX1_near_1 11 rfl rfl)
theorem dX1_near_37 : decode cX1_near 37 = .ok (.iconst 1, 1) := dk_4 (dk_at dksX1_near_1 14 rfl rfl)
theorem dX1_near_38 : decode cX1_near 38 = .ok (.isub, 1) := dk_100 (dk_at dksX1_near_1 15 rfl rfl)
theorem dX1_near_39 : decode cX1_near 39 = .ok (.i2l, 1) := dk_133 (dk_at dksX1_near_1 16 rfl rfl)
theorem dX1_near_40 : decode cX1_near 40 = .ok (.invokestatic 150, 3) := dk_184 0 150 (dk_at dksX1_near_1 17 rfl rfl)
theorem dX1_near_43 : decode cX1_near 43 = .ok (.ifCond .ne 6, 3) := dk_154 0 6 (dk_at dksX1_near_1 20 rfl rfl)
theorem dX1_near_46 : decode cX1_near 46 = .ok (.ldc 218, 2) := dk_18 218 (dk_at dksX1_near_2 0 rfl rfl)
theorem dX1_near_48 : decode cX1_near 48 = .ok (.ireturn, 1) := dk_172 (dk_at dksX1_near_2 2 rfl rfl)
theorem dX1_near_49 : decode cX1_near 49 = .ok (.aload_n 0, 1) := dk_42 (dk_at dksX1_near_2 3 rfl rfl)
theorem dX1_near_50 : decode cX1_near 50 = .ok (.iload_n 1, 1) := dk_27 (dk_at dksX1_near_2 4 rfl rfl)
theorem dX1_near_51 : decode cX1_near 51 = .ok (.iload_n 2, 1) := dk_28 (dk_at dksX1_near_2 5 rfl rfl)
theorem dX1_near_52 : decode cX1_near 52 = .ok (.iload_n 3, 1) := dk_29 (dk_at dksX1_near_2 6 rfl rfl)
theorem dX1_near_53 : decode cX1_near 53 = .ok (.invokevirtual 300, 3) := dk_182 1 44 (dk_at dksX1_near_2 7 rfl rfl)
theorem dX1_near_56 : decode cX1_near 56 = .ok (.ireturn, 1) := dk_172 (dk_at dksX1_near_2 10 rfl rfl)
abbrev cX1_nearSize : ByteArray := prog_14_method_73_code
def yX1_nearSize : MethodName := ⟨RX1, "nearSize", "(I)I"⟩
def dkwX1_nearSize_0 : List UInt8 := [27, 154, 0, 12, 42, 180, 0, 7, 3, 46, 167, 0, 9, 42, 180, 0, 7, 4, 46, 172]
abbrev dktX1_nearSize_0 : List UInt8 := dkwX1_nearSize_0 ++ []
theorem dksX1_nearSize_0 : cX1_nearSize.data.toList.drop 0 = dktX1_nearSize_0 := by decide +kernel
theorem dX1_nearSize_0 : decode cX1_nearSize 0 = .ok (.iload_n 1, 1) := dk_27 (dk_at dksX1_nearSize_0 0 rfl rfl)
theorem dX1_nearSize_1 : decode cX1_nearSize 1 = .ok (.ifCond .ne 12, 3) := dk_154 0 12 (dk_at dksX1_nearSize_0 1 rfl rfl)
theorem dX1_nearSize_4 : decode cX1_nearSize 4 = .ok (.aload_n 0, 1) := dk_42 (dk_at dksX1_nearSize_0 4 rfl rfl)
theorem dX1_nearSize_5 : decode cX1_nearSize 5 = .ok (.getfield 7, 3) := dk_180 0 7 (dk_at dksX1_nearSize_0 5 rfl rfl)
theorem dX1_nearSize_8 : decode cX1_nearSize 8 = .ok (.iconst 0, 1) := dk_3 (dk_at dksX1_nearSize_0 8 rfl rfl)
theorem dX1_nearSize_9 : decode cX1_nearSize 9 = .ok (.iaload, 1) := dk_46 (dk_at dksX1_nearSize_0 9 rfl rfl)
theorem dX1_nearSize_10 : decode cX1_nearSize 10 = .ok (.goto 9, 3) := dk_167 0 9 (dk_at dksX1_nearSize_0 10 rfl rfl)
theorem dX1_nearSize_13 : decode cX1_nearSize 13 = .ok (.aload_n 0, 1) := dk_42 (dk_at dksX1_nearSize_0 13 rfl rfl)
theorem dX1_nearSize_14 : decode cX1_nearSize 14 = .ok (.getfield 7, 3) := dk_180 0 7 (dk_at dksX1_nearSize_0 14 rfl rfl)
theorem dX1_nearSize_17 : decode cX1_nearSize 17 = .ok (.iconst 1, 1) := dk_4 (dk_at dksX1_nearSize_0 17 rfl rfl)
theorem dX1_nearSize_18 : decode cX1_nearSize 18 = .ok (.iaload, 1) := dk_46 (dk_at dksX1_nearSize_0 18 rfl rfl)
theorem dX1_nearSize_19 : decode cX1_nearSize 19 = .ok (.ireturn, 1) := dk_172 (dk_at dksX1_nearSize_0 19 rfl rfl)
abbrev cX1_nearBy : ByteArray := prog_14_method_21_code
def yX1_nearBy : MethodName := ⟨RX1, "nearBy", "(III)I"⟩
def dkwX1_nearBy_5 : List UInt8 := [167, 255, 206, 21, 4, 172]
abbrev dktX1_nearBy_5 : List UInt8 := dkwX1_nearBy_5 ++ []
def dkwX1_nearBy_4 : List UInt8 := [21, 6, 184, 0, 81, 104, 42, 21, 5, 29, 21, 6, 182, 0, 77, 104, 96, 54, 4, 132, 6, 1]
abbrev dktX1_nearBy_4 : List UInt8 := dkwX1_nearBy_4 ++ dktX1_nearBy_5
def dkwX1_nearBy_3 : List UInt8 := [182, 0, 74, 162, 0, 45, 21, 4, 42, 21, 5, 28, 21, 6, 182, 0, 77, 42, 180, 0, 7, 21, 5]
abbrev dktX1_nearBy_3 : List UInt8 := dkwX1_nearBy_3 ++ dktX1_nearBy_4
def dkwX1_nearBy_2 : List UInt8 := [21, 4, 172, 27, 154, 0, 7, 4, 167, 0, 4, 5, 54, 5, 3, 54, 6, 21, 6, 42, 21, 5]
abbrev dktX1_nearBy_2 : List UInt8 := dkwX1_nearBy_2 ++ dktX1_nearBy_3
def dkwX1_nearBy_1 : List UInt8 := [42, 21, 5, 28, 182, 0, 67, 42, 21, 5, 29, 182, 0, 67, 104, 96, 54, 4, 132, 5, 1, 167, 255, 222]
abbrev dktX1_nearBy_1 : List UInt8 := dkwX1_nearBy_1 ++ dktX1_nearBy_2
def dkwX1_nearBy_0 : List UInt8 := [3, 54, 4, 27, 4, 160, 0, 46, 3, 54, 5, 21, 5, 42, 180, 0, 7, 3, 46, 162, 0, 29, 21, 4]
abbrev dktX1_nearBy_0 : List UInt8 := dkwX1_nearBy_0 ++ dktX1_nearBy_1
theorem dksX1_nearBy_0 : cX1_nearBy.data.toList.drop 0 = dktX1_nearBy_0 := by decide +kernel
theorem dksX1_nearBy_1 : cX1_nearBy.data.toList.drop 24 = dktX1_nearBy_1 := dk_seg dksX1_nearBy_0 24 rfl rfl
theorem dksX1_nearBy_2 : cX1_nearBy.data.toList.drop 48 = dktX1_nearBy_2 := dk_seg dksX1_nearBy_1 24 rfl rfl
theorem dksX1_nearBy_3 : cX1_nearBy.data.toList.drop 70 = dktX1_nearBy_3 := dk_seg dksX1_nearBy_2 22 rfl rfl
theorem dksX1_nearBy_4 : cX1_nearBy.data.toList.drop 93 = dktX1_nearBy_4 := dk_seg dksX1_nearBy_3 23 rfl rfl
theorem dksX1_nearBy_5 : cX1_nearBy.data.toList.drop 115 = dktX1_nearBy_5 := dk_seg dksX1_nearBy_4 22 rfl rfl
theorem dX1_nearBy_0 : decode cX1_nearBy 0 = .ok (.iconst 0, 1) := dk_3 (dk_at dksX1_nearBy_0 0 rfl rfl)
theorem dX1_nearBy_1 : decode cX1_nearBy 1 = .ok (.istore 4, 2) := dk_54 4 (dk_at dksX1_nearBy_0 1 rfl rfl)
theorem dX1_nearBy_3 : decode cX1_nearBy 3 = .ok (.iload_n 1, 1) := dk_27 (dk_at dksX1_nearBy_0 3 rfl rfl)
theorem dX1_nearBy_4 : decode cX1_nearBy 4 = .ok (.iconst 1, 1) := dk_4 (dk_at dksX1_nearBy_0 4 rfl rfl)
theorem dX1_nearBy_5 : decode cX1_nearBy 5 = .ok (.if_icmp .ne 46, 3) := dk_160 0 46 (dk_at dksX1_nearBy_0 5 rfl rfl)
theorem dX1_nearBy_8 : decode cX1_nearBy 8 = .ok (.iconst 0, 1) := dk_3 (dk_at dksX1_nearBy_0 8 rfl rfl)
theorem dX1_nearBy_9 : decode cX1_nearBy 9 = .ok (.istore 5, 2) := dk_54 5 (dk_at dksX1_nearBy_0 9 rfl rfl)
theorem dX1_nearBy_11 : decode cX1_nearBy 11 = .ok (.iload 5, 2) := dk_21 5 (dk_at dksX1_nearBy_0 11 rfl rfl)
theorem dX1_nearBy_13 : decode cX1_nearBy 13 = .ok (.aload_n 0, 1) := dk_42 (dk_at dksX1_nearBy_0 13 rfl rfl)
theorem dX1_nearBy_14 : decode cX1_nearBy 14 = .ok (.getfield 7, 3) := dk_180 0 7 (dk_at dksX1_nearBy_0 14 rfl rfl)
theorem dX1_nearBy_17 : decode cX1_nearBy 17 = .ok (.iconst 0, 1) := dk_3 (dk_at dksX1_nearBy_0 17 rfl rfl)
theorem dX1_nearBy_18 : decode cX1_nearBy 18 = .ok (.iaload, 1) := dk_46 (dk_at dksX1_nearBy_0 18 rfl rfl)
theorem dX1_nearBy_19 : decode cX1_nearBy 19 = .ok (.if_icmp .ge 29, 3) := dk_162 0 29 (dk_at dksX1_nearBy_0 19 rfl rfl)
theorem dX1_nearBy_22 : decode cX1_nearBy 22 = .ok (.iload 4, 2) := dk_21 4 (dk_at dksX1_nearBy_0 22 rfl rfl)
theorem dX1_nearBy_24 : decode cX1_nearBy 24 = .ok (.aload_n 0, 1) := dk_42 (dk_at dksX1_nearBy_1 0 rfl rfl)
theorem dX1_nearBy_25 : decode cX1_nearBy 25 = .ok (.iload 5, 2) := dk_21 5 (dk_at dksX1_nearBy_1 1 rfl rfl)
theorem dX1_nearBy_27 : decode cX1_nearBy 27 = .ok (.iload_n 2, 1) := dk_28 (dk_at dksX1_nearBy_1 3 rfl rfl)
theorem dX1_nearBy_28 : decode cX1_nearBy 28 = .ok (.invokevirtual 67, 3) := dk_182 0 67 (dk_at dksX1_nearBy_1 4 rfl rfl)
theorem dX1_nearBy_31 : decode cX1_nearBy 31 = .ok (.aload_n 0, 1) := dk_42 (dk_at dksX1_nearBy_1 7 rfl rfl)
theorem dX1_nearBy_32 : decode cX1_nearBy 32 = .ok (.iload 5, 2) := dk_21 5 (dk_at dksX1_nearBy_1 8 rfl rfl)
theorem dX1_nearBy_34 : decode cX1_nearBy 34 = .ok (.iload_n 3, 1) := dk_29 (dk_at dksX1_nearBy_1 10 rfl rfl)
theorem dX1_nearBy_35 : decode cX1_nearBy 35 = .ok (.invokevirtual 67, 3) := dk_182 0 67 (dk_at dksX1_nearBy_1 11 rfl rfl)
theorem dX1_nearBy_38 : decode cX1_nearBy 38 = .ok (.imul, 1) := dk_104 (dk_at dksX1_nearBy_1 14 rfl rfl)
theorem dX1_nearBy_39 : decode cX1_nearBy 39 = .ok (.iadd, 1) := dk_96 (dk_at dksX1_nearBy_1 15 rfl rfl)
theorem dX1_nearBy_40 : decode cX1_nearBy 40 = .ok (.istore 4, 2) := dk_54 4 (dk_at dksX1_nearBy_1 16 rfl rfl)
theorem dX1_nearBy_42 : decode cX1_nearBy 42 = .ok (.iinc 5 1, 3) := dk_132 5 1 (dk_at dksX1_nearBy_1 18 rfl rfl)
theorem dX1_nearBy_45 : decode cX1_nearBy 45 = .ok (.goto (-34), 3) := dk_167 255 222 (dk_at dksX1_nearBy_1 21 rfl rfl)
theorem dX1_nearBy_48 : decode cX1_nearBy 48 = .ok (.iload 4, 2) := dk_21 4 (dk_at dksX1_nearBy_2 0 rfl rfl)
theorem dX1_nearBy_50 : decode cX1_nearBy 50 = .ok (.ireturn, 1) := dk_172 (dk_at dksX1_nearBy_2 2 rfl rfl)
theorem dX1_nearBy_51 : decode cX1_nearBy 51 = .ok (.iload_n 1, 1) := dk_27 (dk_at dksX1_nearBy_2 3 rfl rfl)
theorem dX1_nearBy_52 : decode cX1_nearBy 52 = .ok (.ifCond .ne 7, 3) := dk_154 0 7 (dk_at dksX1_nearBy_2 4 rfl rfl)
theorem dX1_nearBy_55 : decode cX1_nearBy 55 = .ok (.iconst 1, 1) := dk_4 (dk_at dksX1_nearBy_2 7 rfl rfl)
theorem dX1_nearBy_56 : decode cX1_nearBy 56 = .ok (.goto 4, 3) := dk_167 0 4 (dk_at dksX1_nearBy_2 8 rfl rfl)
theorem dX1_nearBy_59 : decode cX1_nearBy 59 = .ok (.iconst 2, 1) := dk_5 (dk_at dksX1_nearBy_2 11 rfl rfl)
theorem dX1_nearBy_60 : decode cX1_nearBy 60 = .ok (.istore 5, 2) := dk_54 5 (dk_at dksX1_nearBy_2 12 rfl rfl)
theorem dX1_nearBy_62 : decode cX1_nearBy 62 = .ok (.iconst 0, 1) := dk_3 (dk_at dksX1_nearBy_2 14 rfl rfl)
theorem dX1_nearBy_63 : decode cX1_nearBy 63 = .ok (.istore 6, 2) := dk_54 6 (dk_at dksX1_nearBy_2 15 rfl rfl)
theorem dX1_nearBy_65 : decode cX1_nearBy 65 = .ok (.iload 6, 2) := dk_21 6 (dk_at dksX1_nearBy_2 17 rfl rfl)
theorem dX1_nearBy_67 : decode cX1_nearBy 67 = .ok (.aload_n 0, 1) := dk_42 (dk_at dksX1_nearBy_2 19 rfl rfl)
theorem dX1_nearBy_68 : decode cX1_nearBy 68 = .ok (.iload 5, 2) := dk_21 5 (dk_at dksX1_nearBy_2 20 rfl rfl)
theorem dX1_nearBy_70 : decode cX1_nearBy 70 = .ok (.invokevirtual 74, 3) := dk_182 0 74 (dk_at dksX1_nearBy_3 0 rfl rfl)
theorem dX1_nearBy_73 : decode cX1_nearBy 73 = .ok (.if_icmp .ge 45, 3) := dk_162 0 45 (dk_at dksX1_nearBy_3 3 rfl rfl)
theorem dX1_nearBy_76 : decode cX1_nearBy 76 = .ok (.iload 4, 2) := dk_21 4 (dk_at dksX1_nearBy_3 6 rfl rfl)
theorem dX1_nearBy_78 : decode cX1_nearBy 78 = .ok (.aload_n 0, 1) := dk_42 (dk_at dksX1_nearBy_3 8 rfl rfl)
theorem dX1_nearBy_79 : decode cX1_nearBy 79 = .ok (.iload 5, 2) := dk_21 5 (dk_at dksX1_nearBy_3 9 rfl rfl)
theorem dX1_nearBy_81 : decode cX1_nearBy 81 = .ok (.iload_n 2, 1) := dk_28 (dk_at dksX1_nearBy_3 11 rfl rfl)
theorem dX1_nearBy_82 : decode cX1_nearBy 82 = .ok (.iload 6, 2) := dk_21 6 (dk_at dksX1_nearBy_3 12 rfl rfl)
theorem dX1_nearBy_84 : decode cX1_nearBy 84 = .ok (.invokevirtual 77, 3) := dk_182 0 77 (dk_at dksX1_nearBy_3 14 rfl rfl)
theorem dX1_nearBy_87 : decode cX1_nearBy 87 = .ok (.aload_n 0, 1) := dk_42 (dk_at dksX1_nearBy_3 17 rfl rfl)
theorem dX1_nearBy_88 : decode cX1_nearBy 88 = .ok (.getfield 7, 3) := dk_180 0 7 (dk_at dksX1_nearBy_3 18 rfl rfl)
theorem dX1_nearBy_91 : decode cX1_nearBy 91 = .ok (.iload 5, 2) := dk_21 5 (dk_at dksX1_nearBy_3 21 rfl rfl)
theorem dX1_nearBy_93 : decode cX1_nearBy 93 = .ok (.iload 6, 2) := dk_21 6 (dk_at dksX1_nearBy_4 0 rfl rfl)
theorem dX1_nearBy_95 : decode cX1_nearBy 95 = .ok (.invokestatic 81, 3) := dk_184 0 81 (dk_at dksX1_nearBy_4 2 rfl rfl)
theorem dX1_nearBy_98 : decode cX1_nearBy 98 = .ok (.imul, 1) := dk_104 (dk_at dksX1_nearBy_4 5 rfl rfl)
theorem dX1_nearBy_99 : decode cX1_nearBy 99 = .ok (.aload_n 0, 1) := dk_42 (dk_at dksX1_nearBy_4 6 rfl rfl)
theorem dX1_nearBy_100 : decode cX1_nearBy 100 = .ok (.iload 5, 2) := dk_21 5 (dk_at dksX1_nearBy_4 7 rfl rfl)
theorem dX1_nearBy_102 : decode cX1_nearBy 102 = .ok (.iload_n 3, 1) := dk_29 (dk_at dksX1_nearBy_4 9 rfl rfl)
theorem dX1_nearBy_103 : decode cX1_nearBy 103 = .ok (.iload 6, 2) := dk_21 6 (dk_at dksX1_nearBy_4 10 rfl rfl)
theorem dX1_nearBy_105 : decode cX1_nearBy 105 = .ok (.invokevirtual 77, 3) := dk_182 0 77 (dk_at dksX1_nearBy_4 12 rfl rfl)
theorem dX1_nearBy_108 : decode cX1_nearBy 108 = .ok (.imul, 1) := dk_104 (dk_at dksX1_nearBy_4 15 rfl rfl)
theorem dX1_nearBy_109 : decode cX1_nearBy 109 = .ok (.iadd, 1) := dk_96 (dk_at dksX1_nearBy_4 16 rfl rfl)
theorem dX1_nearBy_110 : decode cX1_nearBy 110 = .ok (.istore 4, 2) := dk_54 4 (dk_at dksX1_nearBy_4 17 rfl rfl)
theorem dX1_nearBy_112 : decode cX1_nearBy 112 = .ok (.iinc 6 1, 3) := dk_132 6 1 (dk_at dksX1_nearBy_4 19 rfl rfl)
theorem dX1_nearBy_115 : decode cX1_nearBy 115 = .ok (.goto (-50), 3) := dk_167 255 206 (dk_at dksX1_nearBy_5 0 rfl rfl)
theorem dX1_nearBy_118 : decode cX1_nearBy 118 = .ok (.iload 4, 2) := dk_21 4 (dk_at dksX1_nearBy_5 3 rfl rfl)
theorem dX1_nearBy_120 : decode cX1_nearBy 120 = .ok (.ireturn, 1) := dk_172 (dk_at dksX1_nearBy_5 5 rfl rfl)
abbrev cX1_rank : ByteArray := prog_14_method_77_code
def yX1_rank : MethodName := ⟨RX1, "rank", "(II)I"⟩
def dkwX1_rank_1 : List UInt8 := [184, 1, 56, 153, 0, 12, 42, 27, 28, 182, 1, 59, 167, 0, 5, 18, 218, 172]
abbrev dktX1_rank_1 : List UInt8 := dkwX1_rank_1 ++ []
def dkwX1_rank_0 : List UInt8 := [42, 182, 0, 244, 154, 0, 6, 18, 241, 172, 27, 133, 10, 20, 0, 242, 184, 0, 150, 153, 0, 19, 28]
abbrev dktX1_rank_0 : List UInt8 := dkwX1_rank_0 ++ dktX1_rank_1
theorem dksX1_rank_0 : cX1_rank.data.toList.drop 0 = dktX1_rank_0 := by decide +kernel
theorem dksX1_rank_1 : cX1_rank.data.toList.drop 23 = dktX1_rank_1 := dk_seg dksX1_rank_0 23 rfl rfl
theorem dX1_rank_0 : decode cX1_rank 0 = .ok (.aload_n 0, 1) := dk_42 (dk_at dksX1_rank_0 0 rfl rfl)
theorem dX1_rank_1 : decode cX1_rank 1 = .ok (.invokevirtual 244, 3) := dk_182 0 244 (dk_at dksX1_rank_0 1 rfl rfl)
theorem dX1_rank_4 : decode cX1_rank 4 = .ok (.ifCond .ne 6, 3) := dk_154 0 6 (dk_at dksX1_rank_0 4 rfl rfl)
theorem dX1_rank_7 : decode cX1_rank 7 = .ok (.ldc 241, 2) := dk_18 241 (dk_at dksX1_rank_0 7 rfl rfl)
theorem dX1_rank_9 : decode cX1_rank 9 = .ok (.ireturn, 1) := dk_172 (dk_at dksX1_rank_0 9 rfl rfl)
theorem dX1_rank_10 : decode cX1_rank 10 = .ok (.iload_n 1, 1) := dk_27 (dk_at dksX1_rank_0 10 rfl rfl)
theorem dX1_rank_11 : decode cX1_rank 11 = .ok (.i2l, 1) := dk_133 (dk_at dksX1_rank_0 11 rfl rfl)
theorem dX1_rank_12 : decode cX1_rank 12 = .ok (.lconst 1, 1) := dk_10 (dk_at dksX1_rank_0 12 rfl rfl)
theorem dX1_rank_13 : decode cX1_rank 13 = .ok (.ldc2_w 242, 3) := dk_20 0 242 (dk_at dksX1_rank_0 13 rfl rfl)
theorem dX1_rank_16 : decode cX1_rank 16 = .ok (.invokestatic 150, 3) := dk_184 0 150 (dk_at dksX1_rank_0 16 rfl rfl)
theorem dX1_rank_19 : decode cX1_rank 19 = .ok (.ifCond .eq 19, 3) := dk_153 0 19 (dk_at dksX1_rank_0 19 rfl rfl)
theorem dX1_rank_22 : decode cX1_rank 22 = .ok (.iload_n 2, 1) := dk_28 (dk_at dksX1_rank_0 22 rfl rfl)
theorem dX1_rank_23 : decode cX1_rank 23 = .ok (.invokestatic 312, 3) := dk_184 1 56 (dk_at dksX1_rank_1 0 rfl rfl)
theorem dX1_rank_26 : decode cX1_rank 26 = .ok (.ifCond .eq 12, 3) := dk_153 0 12 (dk_at dksX1_rank_1 3 rfl rfl)
theorem dX1_rank_29 : decode cX1_rank 29 = .ok (.aload_n 0, 1) := dk_42 (dk_at dksX1_rank_1 6 rfl rfl)
theorem dX1_rank_30 : decode cX1_rank 30 = .ok (.iload_n 1, 1) := dk_27 (dk_at dksX1_rank_1 7 rfl rfl)
theorem dX1_rank_31 : decode cX1_rank 31 = .ok (.iload_n 2, 1) := dk_28 (dk_at dksX1_rank_1 8 rfl rfl)
theorem dX1_rank_32 : decode cX1_rank 32 = .ok (.invokevirtual 315, 3) := dk_182 1 59 (dk_at dksX1_rank_1 9 rfl rfl)
theorem dX1_rank_35 : decode cX1_rank 35 = .ok (.goto 5, 3) := dk_167 0 5 (dk_at dksX1_rank_1 12 rfl rfl)
theorem dX1_rank_38 : decode cX1_rank 38 = .ok (.ldc 218, 2) := dk_18 218 (dk_at dksX1_rank_1 15 rfl rfl)
theorem dX1_rank_40 : decode cX1_rank 40 = .ok (.ireturn, 1) := dk_172 (dk_at dksX1_rank_1 17 rfl rfl)
abbrev cX1_isPrime : ByteArray := prog_14_method_75_code
def yX1_isPrime : MethodName := ⟨RX1, "isPrime", "(I)Z"⟩
def dkwX1_isPrime_1 : List UInt8 := [160, 0, 7, 4, 167, 0, 4, 3, 172]
abbrev dktX1_isPrime_1 : List UInt8 := dkwX1_isPrime_1 ++ []
def dkwX1_isPrime_0 : List UInt8 := [26, 153, 0, 24, 26, 5, 159, 0, 19, 26, 6, 159, 0, 14, 26, 8, 159, 0, 9, 26, 16, 7]
abbrev dktX1_isPrime_0 : List UInt8 := dkwX1_isPrime_0 ++ dktX1_isPrime_1
theorem dksX1_isPrime_0 : cX1_isPrime.data.toList.drop 0 = dktX1_isPrime_0 := by decide +kernel
theorem dksX1_isPrime_1 : cX1_isPrime.data.toList.drop 22 = dktX1_isPrime_1 := dk_seg dksX1_isPrime_0 22 rfl rfl
theorem dX1_isPrime_0 : decode cX1_isPrime 0 = .ok (.iload_n 0, 1) := dk_26 (dk_at dksX1_isPrime_0 0 rfl rfl)
theorem dX1_isPrime_1 : decode cX1_isPrime 1 = .ok (.ifCond .eq 24, 3) := dk_153 0 24 (dk_at dksX1_isPrime_0 1 rfl rfl)
theorem dX1_isPrime_4 : decode cX1_isPrime 4 = .ok (.iload_n 0, 1) := dk_26 (dk_at dksX1_isPrime_0 4 rfl rfl)
theorem dX1_isPrime_5 : decode cX1_isPrime 5 = .ok (.iconst 2, 1) := dk_5 (dk_at dksX1_isPrime_0 5 rfl rfl)
theorem dX1_isPrime_6 : decode cX1_isPrime 6 = .ok (.if_icmp .eq 19, 3) := dk_159 0 19 (dk_at dksX1_isPrime_0 6 rfl rfl)
theorem dX1_isPrime_9 : decode cX1_isPrime 9 = .ok (.iload_n 0, 1) := dk_26 (dk_at dksX1_isPrime_0 9 rfl rfl)
theorem dX1_isPrime_10 : decode cX1_isPrime 10 = .ok (.iconst 3, 1) := dk_6 (dk_at dksX1_isPrime_0 10 rfl rfl)
theorem dX1_isPrime_11 : decode cX1_isPrime 11 = .ok (.if_icmp .eq 14, 3) := dk_159 0 14 (dk_at dksX1_isPrime_0 11 rfl rfl)
theorem dX1_isPrime_14 : decode cX1_isPrime 14 = .ok (.iload_n 0, 1) := dk_26 (dk_at dksX1_isPrime_0 14 rfl rfl)
theorem dX1_isPrime_15 : decode cX1_isPrime 15 = .ok (.iconst 5, 1) := dk_8 (dk_at dksX1_isPrime_0 15 rfl rfl)
theorem dX1_isPrime_16 : decode cX1_isPrime 16 = .ok (.if_icmp .eq 9, 3) := dk_159 0 9 (dk_at dksX1_isPrime_0 16 rfl rfl)
theorem dX1_isPrime_19 : decode cX1_isPrime 19 = .ok (.iload_n 0, 1) := dk_26 (dk_at dksX1_isPrime_0 19 rfl rfl)
theorem dX1_isPrime_20 : decode cX1_isPrime 20 = .ok (.bipush 7, 2) := dk_16 7 (dk_at dksX1_isPrime_0 20 rfl rfl)
theorem dX1_isPrime_22 : decode cX1_isPrime 22 = .ok (.if_icmp .ne 7, 3) := dk_160 0 7 (dk_at dksX1_isPrime_1 0 rfl rfl)
theorem dX1_isPrime_25 : decode cX1_isPrime 25 = .ok (.iconst 1, 1) := dk_4 (dk_at dksX1_isPrime_1 3 rfl rfl)
theorem dX1_isPrime_26 : decode cX1_isPrime 26 = .ok (.goto 4, 3) := dk_167 0 4 (dk_at dksX1_isPrime_1 4 rfl rfl)
theorem dX1_isPrime_29 : decode cX1_isPrime 29 = .ok (.iconst 0, 1) := dk_3 (dk_at dksX1_isPrime_1 7 rfl rfl)
theorem dX1_isPrime_30 : decode cX1_isPrime 30 = .ok (.ireturn, 1) := dk_172 (dk_at dksX1_isPrime_1 8 rfl rfl)
abbrev cX1_rankFor : ByteArray := prog_14_method_76_code
def yX1_rankFor : MethodName := ⟨RX1, "rankFor", "(II)I"⟩
def dkwX1_rankFor_1 : List UInt8 := [182, 0, 74, 28, 182, 1, 53, 172]
abbrev dktX1_rankFor_1 : List UInt8 := dkwX1_rankFor_1 ++ []
def dkwX1_rankFor_0 : List UInt8 := [28, 154, 0, 9, 42, 27, 182, 1, 47, 172, 42, 27, 182, 1, 50, 42, 42, 27, 182, 0, 96, 42, 27]
abbrev dktX1_rankFor_0 : List UInt8 := dkwX1_rankFor_0 ++ dktX1_rankFor_1
theorem dksX1_rankFor_0 : cX1_rankFor.data.toList.drop 0 = dktX1_rankFor_0 := by decide +kernel
theorem dksX1_rankFor_1 : cX1_rankFor.data.toList.drop 23 = dktX1_rankFor_1 := dk_seg dksX1_rankFor_0 23 rfl rfl
theorem dX1_rankFor_0 : decode cX1_rankFor 0 = .ok (.iload_n 2, 1) := dk_28 (dk_at dksX1_rankFor_0 0 rfl rfl)
theorem dX1_rankFor_1 : decode cX1_rankFor 1 = .ok (.ifCond .ne 9, 3) := dk_154 0 9 (dk_at dksX1_rankFor_0 1 rfl rfl)
theorem dX1_rankFor_4 : decode cX1_rankFor 4 = .ok (.aload_n 0, 1) := dk_42 (dk_at dksX1_rankFor_0 4 rfl rfl)
theorem dX1_rankFor_5 : decode cX1_rankFor 5 = .ok (.iload_n 1, 1) := dk_27 (dk_at dksX1_rankFor_0 5 rfl rfl)
theorem dX1_rankFor_6 : decode cX1_rankFor 6 = .ok (.invokevirtual 303, 3) := dk_182 1 47 (dk_at dksX1_rankFor_0 6 rfl rfl)
theorem dX1_rankFor_9 : decode cX1_rankFor 9 = .ok (.ireturn, 1) := dk_172 (dk_at dksX1_rankFor_0 9 rfl rfl)
theorem dX1_rankFor_10 : decode cX1_rankFor 10 = .ok (.aload_n 0, 1) := dk_42 (dk_at dksX1_rankFor_0 10 rfl rfl)
theorem dX1_rankFor_11 : decode cX1_rankFor 11 = .ok (.iload_n 1, 1) := dk_27 (dk_at dksX1_rankFor_0 11 rfl rfl)
theorem dX1_rankFor_12 : decode cX1_rankFor 12 = .ok (.invokevirtual 306, 3) := dk_182 1 50 (dk_at dksX1_rankFor_0 12 rfl rfl)
theorem dX1_rankFor_15 : decode cX1_rankFor 15 = .ok (.aload_n 0, 1) := dk_42 (dk_at dksX1_rankFor_0 15 rfl rfl)
theorem dX1_rankFor_16 : decode cX1_rankFor 16 = .ok (.aload_n 0, 1) := dk_42 (dk_at dksX1_rankFor_0 16 rfl rfl)
theorem dX1_rankFor_17 : decode cX1_rankFor 17 = .ok (.iload_n 1, 1) := dk_27 (dk_at dksX1_rankFor_0 17 rfl rfl)
theorem dX1_rankFor_18 : decode cX1_rankFor 18 = .ok (.invokevirtual 96, 3) := dk_182 0 96 (dk_at dksX1_rankFor_0 18 rfl rfl)
theorem dX1_rankFor_21 : decode cX1_rankFor 21 = .ok (.aload_n 0, 1) := dk_42 (dk_at dksX1_rankFor_0 21 rfl rfl)
theorem dX1_rankFor_22 : decode cX1_rankFor 22 = .ok (.iload_n 1, 1) := dk_27 (dk_at dksX1_rankFor_0 22 rfl rfl)
theorem dX1_rankFor_23 : decode cX1_rankFor 23 = .ok (.invokevirtual 74, 3) := dk_182 0 74 (dk_at dksX1_rankFor_1 0 rfl rfl)
theorem dX1_rankFor_26 : decode cX1_rankFor 26 = .ok (.iload_n 2, 1) := dk_28 (dk_at dksX1_rankFor_1 3 rfl rfl)
theorem dX1_rankFor_27 : decode cX1_rankFor 27 = .ok (.invokevirtual 309, 3) := dk_182 1 53 (dk_at dksX1_rankFor_1 4 rfl rfl)
theorem dX1_rankFor_30 : decode cX1_rankFor 30 = .ok (.ireturn, 1) := dk_172 (dk_at dksX1_rankFor_1 7 rfl rfl)
abbrev cX1_rankAll : ByteArray := prog_14_method_34_code
def yX1_rankAll : MethodName := ⟨RX1, "rankAll", "(I)I"⟩
def dkwX1_rankAll_0 : List UInt8 := [42, 27, 42, 27, 182, 0, 124, 3, 182, 0, 127, 172]
abbrev dktX1_rankAll_0 : List UInt8 := dkwX1_rankAll_0 ++ []
theorem dksX1_rankAll_0 : cX1_rankAll.data.toList.drop 0 = dktX1_rankAll_0 := by decide +kernel
theorem dX1_rankAll_0 : decode cX1_rankAll 0 = .ok (.aload_n 0, 1) := dk_42 (dk_at dksX1_rankAll_0 0 rfl rfl)
theorem dX1_rankAll_1 : decode cX1_rankAll 1 = .ok (.iload_n 1, 1) := dk_27 (dk_at dksX1_rankAll_0 1 rfl rfl)
theorem dX1_rankAll_2 : decode cX1_rankAll 2 = .ok (.aload_n 0, 1) := dk_42 (dk_at dksX1_rankAll_0 2 rfl rfl)
theorem dX1_rankAll_3 : decode cX1_rankAll 3 = .ok (.iload_n 1, 1) := dk_27 (dk_at dksX1_rankAll_0 3 rfl rfl)
theorem dX1_rankAll_4 : decode cX1_rankAll 4 = .ok (.invokevirtual 124, 3) := dk_182 0 124 (dk_at dksX1_rankAll_0 4 rfl rfl)
theorem dX1_rankAll_7 : decode cX1_rankAll 7 = .ok (.iconst 0, 1) := dk_3 (dk_at dksX1_rankAll_0 7 rfl rfl)
theorem dX1_rankAll_8 : decode cX1_rankAll 8 = .ok (.invokevirtual 127, 3) := dk_182 0 127 (dk_at dksX1_rankAll_0 8 rfl rfl)
theorem dX1_rankAll_11 : decode cX1_rankAll 11 = .ok (.ireturn, 1) := dk_172 (dk_at dksX1_rankAll_0 11 rfl rfl)
abbrev cX1_allColumns : ByteArray := prog_14_method_33_code
def yX1_allColumns : MethodName := ⟨RX1, "allColumns", "(I)I"⟩
def dkwX1_allColumns_0 : List UInt8 := [4, 42, 27, 182, 0, 74, 120, 4, 100, 172]
abbrev dktX1_allColumns_0 : List UInt8 := dkwX1_allColumns_0 ++ []
theorem dksX1_allColumns_0 : cX1_allColumns.data.toList.drop 0 = dktX1_allColumns_0 := by decide +kernel
theorem dX1_allColumns_0 : decode cX1_allColumns 0 = .ok (.iconst 1, 1) := dk_4 (dk_at dksX1_allColumns_0 0 rfl rfl)
theorem dX1_allColumns_1 : decode cX1_allColumns 1 = .ok (.aload_n 0, 1) := dk_42 (dk_at dksX1_allColumns_0 1 rfl rfl)
theorem dX1_allColumns_2 : decode cX1_allColumns 2 = .ok (.iload_n 1, 1) := dk_27 (dk_at dksX1_allColumns_0 2 rfl rfl)
theorem dX1_allColumns_3 : decode cX1_allColumns 3 = .ok (.invokevirtual 74, 3) := dk_182 0 74 (dk_at dksX1_allColumns_0 3 rfl rfl)
theorem dX1_allColumns_6 : decode cX1_allColumns 6 = .ok (.ishl, 1) := dk_120 (dk_at dksX1_allColumns_0 6 rfl rfl)
theorem dX1_allColumns_7 : decode cX1_allColumns 7 = .ok (.iconst 1, 1) := dk_4 (dk_at dksX1_allColumns_0 7 rfl rfl)
theorem dX1_allColumns_8 : decode cX1_allColumns 8 = .ok (.isub, 1) := dk_100 (dk_at dksX1_allColumns_0 8 rfl rfl)
theorem dX1_allColumns_9 : decode cX1_allColumns 9 = .ok (.ireturn, 1) := dk_172 (dk_at dksX1_allColumns_0 9 rfl rfl)
abbrev cX1_rankOf : ByteArray := prog_14_method_32_code
def yX1_rankOf : MethodName := ⟨RX1, "rankOf", "(III)I"⟩
def dkwX1_rankOf_2 : List UInt8 := [54, 4, 132, 5, 1, 167, 255, 211, 21, 4, 172]
abbrev dktX1_rankOf_2 : List UInt8 := dkwX1_rankOf_2 ++ []
def dkwX1_rankOf_1 : List UInt8 := [163, 0, 32, 42, 27, 28, 21, 5, 29, 182, 0, 121, 9, 148, 153, 0, 8, 21, 5, 167, 0, 5, 21, 4]
abbrev dktX1_rankOf_1 : List UInt8 := dkwX1_rankOf_1 ++ dktX1_rankOf_2
def dkwX1_rankOf_0 : List UInt8 := [3, 54, 4, 4, 54, 5, 21, 5, 28, 184, 0, 99, 163, 0, 42, 21, 5, 42, 27, 182, 0, 96]
abbrev dktX1_rankOf_0 : List UInt8 := dkwX1_rankOf_0 ++ dktX1_rankOf_1
theorem dksX1_rankOf_0 : cX1_rankOf.data.toList.drop 0 = dktX1_rankOf_0 := by decide +kernel
theorem dksX1_rankOf_1 : cX1_rankOf.data.toList.drop 22 = dktX1_rankOf_1 := dk_seg dksX1_rankOf_0 22 rfl rfl
theorem dksX1_rankOf_2 : cX1_rankOf.data.toList.drop 46 = dktX1_rankOf_2 := dk_seg dksX1_rankOf_1 24 rfl rfl
theorem dX1_rankOf_0 : decode cX1_rankOf 0 = .ok (.iconst 0, 1) := dk_3 (dk_at dksX1_rankOf_0 0 rfl rfl)
theorem dX1_rankOf_1 : decode cX1_rankOf 1 = .ok (.istore 4, 2) := dk_54 4 (dk_at dksX1_rankOf_0 1 rfl rfl)
theorem dX1_rankOf_3 : decode cX1_rankOf 3 = .ok (.iconst 1, 1) := dk_4 (dk_at dksX1_rankOf_0 3 rfl rfl)
theorem dX1_rankOf_4 : decode cX1_rankOf 4 = .ok (.istore 5, 2) := dk_54 5 (dk_at dksX1_rankOf_0 4 rfl rfl)
theorem dX1_rankOf_6 : decode cX1_rankOf 6 = .ok (.iload 5, 2) := dk_21 5 (dk_at dksX1_rankOf_0 6 rfl rfl)
theorem dX1_rankOf_8 : decode cX1_rankOf 8 = .ok (.iload_n 2, 1) := dk_28 (dk_at dksX1_rankOf_0 8 rfl rfl)
theorem dX1_rankOf_9 : decode cX1_rankOf 9 = .ok (.invokestatic 99, 3) := dk_184 0 99 (dk_at dksX1_rankOf_0 9 rfl rfl)
theorem dX1_rankOf_12 : decode cX1_rankOf 12 = .ok (.if_icmp .gt 42, 3) := dk_163 0 42 (dk_at dksX1_rankOf_0 12 rfl rfl)
theorem dX1_rankOf_15 : decode cX1_rankOf 15 = .ok (.iload 5, 2) := dk_21 5 (dk_at dksX1_rankOf_0 15 rfl rfl)
theorem dX1_rankOf_17 : decode cX1_rankOf 17 = .ok (.aload_n 0, 1) := dk_42 (dk_at dksX1_rankOf_0 17 rfl rfl)
theorem dX1_rankOf_18 : decode cX1_rankOf 18 = .ok (.iload_n 1, 1) := dk_27 (dk_at dksX1_rankOf_0 18 rfl rfl)
theorem dX1_rankOf_19 : decode cX1_rankOf 19 = .ok (.invokevirtual 96, 3) := dk_182 0 96 (dk_at dksX1_rankOf_0 19 rfl rfl)
theorem dX1_rankOf_22 : decode cX1_rankOf 22 = .ok (.if_icmp .gt 32, 3) := dk_163 0 32 (dk_at dksX1_rankOf_1 0 rfl rfl)
theorem dX1_rankOf_25 : decode cX1_rankOf 25 = .ok (.aload_n 0, 1) := dk_42 (dk_at dksX1_rankOf_1 3 rfl rfl)
theorem dX1_rankOf_26 : decode cX1_rankOf 26 = .ok (.iload_n 1, 1) := dk_27 (dk_at dksX1_rankOf_1 4 rfl rfl)
theorem dX1_rankOf_27 : decode cX1_rankOf 27 = .ok (.iload_n 2, 1) := dk_28 (dk_at dksX1_rankOf_1 5 rfl rfl)
theorem dX1_rankOf_28 : decode cX1_rankOf 28 = .ok (.iload 5, 2) := dk_21 5 (dk_at dksX1_rankOf_1 6 rfl rfl)
theorem dX1_rankOf_30 : decode cX1_rankOf 30 = .ok (.iload_n 3, 1) := dk_29 (dk_at dksX1_rankOf_1 8 rfl rfl)
theorem dX1_rankOf_31 : decode cX1_rankOf 31 = .ok (.invokevirtual 121, 3) := dk_182 0 121 (dk_at dksX1_rankOf_1 9 rfl rfl)
theorem dX1_rankOf_34 : decode cX1_rankOf 34 = .ok (.lconst 0, 1) := dk_9 (dk_at dksX1_rankOf_1 12 rfl rfl)
theorem dX1_rankOf_35 : decode cX1_rankOf 35 = .ok (.lcmp, 1) := dk_148 (dk_at dksX1_rankOf_1 13 rfl rfl)
theorem dX1_rankOf_36 : decode cX1_rankOf 36 = .ok (.ifCond .eq 8, 3) := dk_153 0 8 (dk_at dksX1_rankOf_1 14 rfl rfl)
theorem dX1_rankOf_39 : decode cX1_rankOf 39 = .ok (.iload 5, 2) := dk_21 5 (dk_at dksX1_rankOf_1 17 rfl rfl)
theorem dX1_rankOf_41 : decode cX1_rankOf 41 = .ok (.goto 5, 3) := dk_167 0 5 (dk_at dksX1_rankOf_1 19 rfl rfl)
theorem dX1_rankOf_44 : decode cX1_rankOf 44 = .ok (.iload 4, 2) := dk_21 4 (dk_at dksX1_rankOf_1 22 rfl rfl)
theorem dX1_rankOf_46 : decode cX1_rankOf 46 = .ok (.istore 4, 2) := dk_54 4 (dk_at dksX1_rankOf_2 0 rfl rfl)
theorem dX1_rankOf_48 : decode cX1_rankOf 48 = .ok (.iinc 5 1, 3) := dk_132 5 1 (dk_at dksX1_rankOf_2 2 rfl rfl)
theorem dX1_rankOf_51 : decode cX1_rankOf 51 = .ok (.goto (-45), 3) := dk_167 255 211 (dk_at dksX1_rankOf_2 5 rfl rfl)
theorem dX1_rankOf_54 : decode cX1_rankOf 54 = .ok (.iload 4, 2) := dk_21 4 (dk_at dksX1_rankOf_2 8 rfl rfl)
theorem dX1_rankOf_56 : decode cX1_rankOf 56 = .ok (.ireturn, 1) := dk_172 (dk_at dksX1_rankOf_2 10 rfl rfl)
abbrev cX1_ones : ByteArray := prog_14_method_5_code
def yX1_ones : MethodName := ⟨RX1, "ones", "(I)I"⟩
def dkwX1_ones_1 : List UInt8 := [96, 60, 132, 2, 1, 167, 255, 231, 27, 172]
abbrev dktX1_ones_1 : List UInt8 := dkwX1_ones_1 ++ []
def dkwX1_ones_0 : List UInt8 := [3, 60, 3, 61, 28, 16, 6, 162, 0, 25, 27, 26, 28, 184, 0, 48, 153, 0, 7, 4, 167, 0, 4, 3]
abbrev dktX1_ones_0 : List UInt8 := dkwX1_ones_0 ++ dktX1_ones_1
theorem dksX1_ones_0 : cX1_ones.data.toList.drop 0 = dktX1_ones_0 := by decide +kernel
theorem dksX1_ones_1 : cX1_ones.data.toList.drop 24 = dktX1_ones_1 := dk_seg dksX1_ones_0 24 rfl rfl
theorem dX1_ones_0 : decode cX1_ones 0 = .ok (.iconst 0, 1) := dk_3 (dk_at dksX1_ones_0 0 rfl rfl)
theorem dX1_ones_1 : decode cX1_ones 1 = .ok (.istore_n 1, 1) := dk_60 (dk_at dksX1_ones_0 1 rfl rfl)
theorem dX1_ones_2 : decode cX1_ones 2 = .ok (.iconst 0, 1) := dk_3 (dk_at dksX1_ones_0 2 rfl rfl)
theorem dX1_ones_3 : decode cX1_ones 3 = .ok (.istore_n 2, 1) := dk_61 (dk_at dksX1_ones_0 3 rfl rfl)
theorem dX1_ones_4 : decode cX1_ones 4 = .ok (.iload_n 2, 1) := dk_28 (dk_at dksX1_ones_0 4 rfl rfl)
theorem dX1_ones_5 : decode cX1_ones 5 = .ok (.bipush 6, 2) := dk_16 6 (dk_at dksX1_ones_0 5 rfl rfl)
theorem dX1_ones_7 : decode cX1_ones 7 = .ok (.if_icmp .ge 25, 3) := dk_162 0 25 (dk_at dksX1_ones_0 7 rfl rfl)
theorem dX1_ones_10 : decode cX1_ones 10 = .ok (.iload_n 1, 1) := dk_27 (dk_at dksX1_ones_0 10 rfl rfl)
theorem dX1_ones_11 : decode cX1_ones 11 = .ok (.iload_n 0, 1) := dk_26 (dk_at dksX1_ones_0 11 rfl rfl)
theorem dX1_ones_12 : decode cX1_ones 12 = .ok (.iload_n 2, 1) := dk_28 (dk_at dksX1_ones_0 12 rfl rfl)
theorem dX1_ones_13 : decode cX1_ones 13 = .ok (.invokestatic 48, 3) := dk_184 0 48 (dk_at dksX1_ones_0 13 rfl rfl)
theorem dX1_ones_16 : decode cX1_ones 16 = .ok (.ifCond .eq 7, 3) := dk_153 0 7 (dk_at dksX1_ones_0 16 rfl rfl)
theorem dX1_ones_19 : decode cX1_ones 19 = .ok (.iconst 1, 1) := dk_4 (dk_at dksX1_ones_0 19 rfl rfl)
theorem dX1_ones_20 : decode cX1_ones 20 = .ok (.goto 4, 3) := dk_167 0 4 (dk_at dksX1_ones_0 20 rfl rfl)
theorem dX1_ones_23 : decode cX1_ones 23 = .ok (.iconst 0, 1) := dk_3 (dk_at dksX1_ones_0 23 rfl rfl)
theorem dX1_ones_24 : decode cX1_ones 24 = .ok (.iadd, 1) := dk_96 (dk_at dksX1_ones_1 0 rfl rfl)
theorem dX1_ones_25 : decode cX1_ones 25 = .ok (.istore_n 1, 1) := dk_60 (dk_at dksX1_ones_1 1 rfl rfl)
theorem dX1_ones_26 : decode cX1_ones 26 = .ok (.iinc 2 1, 3) := dk_132 2 1 (dk_at dksX1_ones_1 2 rfl rfl)
theorem dX1_ones_29 : decode cX1_ones 29 = .ok (.goto (-25), 3) := dk_167 255 231 (dk_at dksX1_ones_1 5 rfl rfl)
theorem dX1_ones_32 : decode cX1_ones 32 = .ok (.iload_n 1, 1) := dk_27 (dk_at dksX1_ones_1 8 rfl rfl)
theorem dX1_ones_33 : decode cX1_ones 33 = .ok (.ireturn, 1) := dk_172 (dk_at dksX1_ones_1 9 rfl rfl)
abbrev cX1_has : ByteArray := prog_14_method_4_code
def yX1_has : MethodName := ⟨RX1, "has", "(II)Z"⟩
def dkwX1_has_0 : List UInt8 := [26, 27, 122, 4, 126, 4, 160, 0, 7, 4, 167, 0, 4, 3, 172]
abbrev dktX1_has_0 : List UInt8 := dkwX1_has_0 ++ []
theorem dksX1_has_0 : cX1_has.data.toList.drop 0 = dktX1_has_0 := by decide +kernel
theorem dX1_has_0 : decode cX1_has 0 = .ok (.iload_n 0, 1) := dk_26 (dk_at dksX1_has_0 0 rfl rfl)
theorem dX1_has_1 : decode cX1_has 1 = .ok (.iload_n 1, 1) := dk_27 (dk_at dksX1_has_0 1 rfl rfl)
theorem dX1_has_2 : decode cX1_has 2 = .ok (.ishr, 1) := dk_122 (dk_at dksX1_has_0 2 rfl rfl)
theorem dX1_has_3 : decode cX1_has 3 = .ok (.iconst 1, 1) := dk_4 (dk_at dksX1_has_0 3 rfl rfl)
theorem dX1_has_4 : decode cX1_has 4 = .ok (.iand, 1) := dk_126 (dk_at dksX1_has_0 4 rfl rfl)
theorem dX1_has_5 : decode cX1_has 5 = .ok (.iconst 1, 1) := dk_4 (dk_at dksX1_has_0 5 rfl rfl)
theorem dX1_has_6 : decode cX1_has 6 = .ok (.if_icmp .ne 7, 3) := dk_160 0 7 (dk_at dksX1_has_0 6 rfl rfl)
theorem dX1_has_9 : decode cX1_has 9 = .ok (.iconst 1, 1) := dk_4 (dk_at dksX1_has_0 9 rfl rfl)
theorem dX1_has_10 : decode cX1_has 10 = .ok (.goto 4, 3) := dk_167 0 4 (dk_at dksX1_has_0 10 rfl rfl)
theorem dX1_has_13 : decode cX1_has 13 = .ok (.iconst 0, 1) := dk_3 (dk_at dksX1_has_0 13 rfl rfl)
theorem dX1_has_14 : decode cX1_has 14 = .ok (.ireturn, 1) := dk_172 (dk_at dksX1_has_0 14 rfl rfl)
abbrev cX1_minorsOf : ByteArray := prog_14_method_31_code
def yX1_minorsOf : MethodName := ⟨RX1, "minorsOf", "(IIII)J"⟩
def dkwX1_minorsOf_3 : List UInt8 := [132, 8, 1, 167, 255, 202, 132, 7, 1, 167, 255, 181, 22, 5, 173]
abbrev dktX1_minorsOf_3 : List UInt8 := dkwX1_minorsOf_3 ++ []
def dkwX1_minorsOf_2 : List UInt8 := [2, 130, 126, 154, 0, 21, 22, 5, 42, 27, 21, 7, 21, 8, 21, 4, 182, 0, 113, 184, 0, 117, 55, 5]
abbrev dktX1_minorsOf_2 : List UInt8 := dkwX1_minorsOf_2 ++ dktX1_minorsOf_3
def dkwX1_minorsOf_1 : List UInt8 := [163, 0, 54, 21, 7, 184, 0, 99, 29, 160, 0, 39, 21, 8, 184, 0, 99, 29, 160, 0, 30, 21, 8, 28]
abbrev dktX1_minorsOf_1 : List UInt8 := dkwX1_minorsOf_1 ++ dktX1_minorsOf_2
def dkwX1_minorsOf_0 : List UInt8 := [9, 55, 5, 3, 54, 7, 21, 7, 4, 42, 27, 182, 0, 96, 120, 162, 0, 69, 3, 54, 8, 21, 8, 28]
abbrev dktX1_minorsOf_0 : List UInt8 := dkwX1_minorsOf_0 ++ dktX1_minorsOf_1
theorem dksX1_minorsOf_0 : cX1_minorsOf.data.toList.drop 0 = dktX1_minorsOf_0 := by decide +kernel
theorem dksX1_minorsOf_1 : cX1_minorsOf.data.toList.drop 24 = dktX1_minorsOf_1 := dk_seg dksX1_minorsOf_0 24 rfl rfl
theorem dksX1_minorsOf_2 : cX1_minorsOf.data.toList.drop 48 = dktX1_minorsOf_2 := dk_seg dksX1_minorsOf_1 24 rfl rfl
theorem dksX1_minorsOf_3 : cX1_minorsOf.data.toList.drop 72 = dktX1_minorsOf_3 := dk_seg dksX1_minorsOf_2 24 rfl rfl
theorem dX1_minorsOf_0 : decode cX1_minorsOf 0 = .ok (.lconst 0, 1) := dk_9 (dk_at dksX1_minorsOf_0 0 rfl rfl)
theorem dX1_minorsOf_1 : decode cX1_minorsOf 1 = .ok (.lstore 5, 2) := dk_55 5 (dk_at dksX1_minorsOf_0 1 rfl rfl)
theorem dX1_minorsOf_3 : decode cX1_minorsOf 3 = .ok (.iconst 0, 1) := dk_3 (dk_at dksX1_minorsOf_0 3 rfl rfl)
theorem dX1_minorsOf_4 : decode cX1_minorsOf 4 = .ok (.istore 7, 2) := dk_54 7 (dk_at dksX1_minorsOf_0 4 rfl rfl)
theorem dX1_minorsOf_6 : decode cX1_minorsOf 6 = .ok (.iload 7, 2) := dk_21 7 (dk_at dksX1_minorsOf_0 6 rfl rfl)
theorem dX1_minorsOf_8 : decode cX1_minorsOf 8 = .ok (.iconst 1, 1) := dk_4 (dk_at dksX1_minorsOf_0 8 rfl rfl)
theorem dX1_minorsOf_9 : decode cX1_minorsOf 9 = .ok (.aload_n 0, 1) := dk_42 (dk_at dksX1_minorsOf_0 9 rfl rfl)
theorem dX1_minorsOf_10 : decode cX1_minorsOf 10 = .ok (.iload_n 1, 1) := dk_27 (dk_at dksX1_minorsOf_0 10 rfl rfl)
theorem dX1_minorsOf_11 : decode cX1_minorsOf 11 = .ok (.invokevirtual 96, 3) := dk_182 0 96 (dk_at dksX1_minorsOf_0 11 rfl rfl)
theorem dX1_minorsOf_14 : decode cX1_minorsOf 14 = .ok (.ishl, 1) := dk_120 (dk_at dksX1_minorsOf_0 14 rfl rfl)
theorem dX1_minorsOf_15 : decode cX1_minorsOf 15 = .ok (.if_icmp .ge 69, 3) := dk_162 0 69 (dk_at dksX1_minorsOf_0 15 rfl rfl)
theorem dX1_minorsOf_18 : decode cX1_minorsOf 18 = .ok (.iconst 0, 1) := dk_3 (dk_at dksX1_minorsOf_0 18 rfl rfl)
theorem dX1_minorsOf_19 : decode cX1_minorsOf 19 = .ok (.istore 8, 2) := dk_54 8 (dk_at dksX1_minorsOf_0 19 rfl rfl)
theorem dX1_minorsOf_21 : decode cX1_minorsOf 21 = .ok (.iload 8, 2) := dk_21 8 (dk_at dksX1_minorsOf_0 21 rfl rfl)
theorem dX1_minorsOf_23 : decode cX1_minorsOf 23 = .ok (.iload_n 2, 1) := dk_28 (dk_at dksX1_minorsOf_0 23 rfl rfl)
theorem dX1_minorsOf_24 : decode cX1_minorsOf 24 = .ok (.if_icmp .gt 54, 3) := dk_163 0 54 (dk_at dksX1_minorsOf_1 0 rfl rfl)
theorem dX1_minorsOf_27 : decode cX1_minorsOf 27 = .ok (.iload 7, 2) := dk_21 7 (dk_at dksX1_minorsOf_1 3 rfl rfl)
theorem dX1_minorsOf_29 : decode cX1_minorsOf 29 = .ok (.invokestatic 99, 3) := dk_184 0 99 (dk_at dksX1_minorsOf_1 5 rfl rfl)
theorem dX1_minorsOf_32 : decode cX1_minorsOf 32 = .ok (.iload_n 3, 1) := dk_29 (dk_at dksX1_minorsOf_1 8 rfl rfl)
theorem dX1_minorsOf_33 : decode cX1_minorsOf 33 = .ok (.if_icmp .ne 39, 3) := dk_160 0 39 (dk_at dksX1_minorsOf_1 9 rfl rfl)
theorem dX1_minorsOf_36 : decode cX1_minorsOf 36 = .ok (.iload 8, 2) := dk_21 8 (dk_at dksX1_minorsOf_1 12 rfl rfl)
theorem dX1_minorsOf_38 : decode cX1_minorsOf 38 = .ok (.invokestatic 99, 3) := dk_184 0 99 (dk_at dksX1_minorsOf_1 14 rfl rfl)
theorem dX1_minorsOf_41 : decode cX1_minorsOf 41 = .ok (.iload_n 3, 1) := dk_29 (dk_at dksX1_minorsOf_1 17 rfl rfl)
theorem dX1_minorsOf_42 : decode cX1_minorsOf 42 = .ok (.if_icmp .ne 30, 3) := dk_160 0 30 (dk_at dksX1_minorsOf_1 18 rfl rfl)
theorem dX1_minorsOf_45 : decode cX1_minorsOf 45 = .ok (.iload 8, 2) := dk_21 8 (dk_at dksX1_minorsOf_1 21 rfl rfl)
theorem dX1_minorsOf_47 : decode cX1_minorsOf 47 = .ok (.iload_n 2, 1) := dk_28 (dk_at dksX1_minorsOf_1 23 rfl rfl)
theorem dX1_minorsOf_48 : decode cX1_minorsOf 48 = .ok (.iconst (-1), 1) := dk_2 (dk_at dksX1_minorsOf_2 0 rfl rfl)
theorem dX1_minorsOf_49 : decode cX1_minorsOf 49 = .ok (.ixor, 1) := dk_130 (dk_at dksX1_minorsOf_2 1 rfl rfl)
theorem dX1_minorsOf_50 : decode cX1_minorsOf 50 = .ok (.iand, 1) := dk_126 (dk_at dksX1_minorsOf_2 2 rfl rfl)
theorem dX1_minorsOf_51 : decode cX1_minorsOf 51 = .ok (.ifCond .ne 21, 3) := dk_154 0 21 (dk_at dksX1_minorsOf_2 3 rfl rfl)
theorem dX1_minorsOf_54 : decode cX1_minorsOf 54 = .ok (.lload 5, 2) := dk_22 5 (dk_at dksX1_minorsOf_2 6 rfl rfl)
theorem dX1_minorsOf_56 : decode cX1_minorsOf 56 = .ok (.aload_n 0, 1) := dk_42 (dk_at dksX1_minorsOf_2 8 rfl rfl)
theorem dX1_minorsOf_57 : decode cX1_minorsOf 57 = .ok (.iload_n 1, 1) := dk_27 (dk_at dksX1_minorsOf_2 9 rfl rfl)
theorem dX1_minorsOf_58 : decode cX1_minorsOf 58 = .ok (.iload 7, 2) := dk_21 7 (dk_at dksX1_minorsOf_2 10 rfl rfl)
theorem dX1_minorsOf_60 : decode cX1_minorsOf 60 = .ok (.iload 8, 2) := dk_21 8 (dk_at dksX1_minorsOf_2 12 rfl rfl)
theorem dX1_minorsOf_62 : decode cX1_minorsOf 62 = .ok (.iload 4, 2) := dk_21 4 (dk_at dksX1_minorsOf_2 14 rfl rfl)
theorem dX1_minorsOf_64 : decode cX1_minorsOf 64 = .ok (.invokevirtual 113, 3) := dk_182 0 113 (dk_at dksX1_minorsOf_2 16 rfl rfl)
theorem dX1_minorsOf_67 : decode cX1_minorsOf 67 = .ok (.invokestatic 117, 3) := dk_184 0 117 (dk_at dksX1_minorsOf_2 19 rfl rfl)
theorem dX1_minorsOf_70 : decode cX1_minorsOf 70 = .ok (.lstore 5, 2) := dk_55 5 (dk_at dksX1_minorsOf_2 22 rfl rfl)
theorem dX1_minorsOf_72 : decode cX1_minorsOf 72 = .ok (.iinc 8 1, 3) := dk_132 8 1 (dk_at dksX1_minorsOf_3 0 rfl rfl)
theorem dX1_minorsOf_75 : decode cX1_minorsOf 75 = .ok (.goto (-54), 3) := dk_167 255 202 (dk_at dksX1_minorsOf_3 3 rfl rfl)
theorem dX1_minorsOf_78 : decode cX1_minorsOf 78 = .ok (.iinc 7 1, 3) := dk_132 7 1 (dk_at dksX1_minorsOf_3 6 rfl rfl)
theorem dX1_minorsOf_81 : decode cX1_minorsOf 81 = .ok (.goto (-75), 3) := dk_167 255 181 (dk_at dksX1_minorsOf_3 9 rfl rfl)
theorem dX1_minorsOf_84 : decode cX1_minorsOf 84 = .ok (.lload 5, 2) := dk_22 5 (dk_at dksX1_minorsOf_3 12 rfl rfl)
theorem dX1_minorsOf_86 : decode cX1_minorsOf 86 = .ok (.lreturn, 1) := dk_173 (dk_at dksX1_minorsOf_3 14 rfl rfl)
abbrev cX1_minor : ByteArray := prog_14_method_30_code
def yX1_minor : MethodName := ⟨RX1, "minor", "(IIII)J"⟩
def dkwX1_minor_3 : List UInt8 := [167, 255, 198, 42, 21, 5, 182, 0, 109, 173]
abbrev dktX1_minor_3 : List UInt8 := dkwX1_minor_3 ++ []
def dkwX1_minor_2 : List UInt8 := [184, 0, 102, 29, 21, 6, 21, 5, 112, 184, 0, 102, 21, 4, 182, 0, 105, 133, 80, 132, 6, 1]
abbrev dktX1_minor_2 : List UInt8 := dkwX1_minor_2 ++ dktX1_minor_3
def dkwX1_minor_1 : List UInt8 := [16, 6, 21, 6, 21, 5, 108, 104, 21, 6, 21, 5, 112, 96, 42, 27, 28, 21, 6, 21, 5, 108]
abbrev dktX1_minor_1 : List UInt8 := dkwX1_minor_1 ++ dktX1_minor_2
def dkwX1_minor_0 : List UInt8 := [28, 184, 0, 99, 54, 5, 3, 54, 6, 21, 6, 21, 5, 21, 5, 104, 162, 0, 54, 42, 180, 0, 29]
abbrev dktX1_minor_0 : List UInt8 := dkwX1_minor_0 ++ dktX1_minor_1
theorem dksX1_minor_0 : cX1_minor.data.toList.drop 0 = dktX1_minor_0 := by decide +kernel
theorem dksX1_minor_1 : cX1_minor.data.toList.drop 23 = dktX1_minor_1 := dk_seg dksX1_minor_0 23 rfl rfl
theorem dksX1_minor_2 : cX1_minor.data.toList.drop 45 = dktX1_minor_2 := dk_seg dksX1_minor_1 22 rfl rfl
theorem dksX1_minor_3 : cX1_minor.data.toList.drop 67 = dktX1_minor_3 := dk_seg dksX1_minor_2 22 rfl rfl
theorem dX1_minor_0 : decode cX1_minor 0 = .ok (.iload_n 2, 1) := dk_28 (dk_at dksX1_minor_0 0 rfl rfl)
theorem dX1_minor_1 : decode cX1_minor 1 = .ok (.invokestatic 99, 3) := dk_184 0 99 (dk_at dksX1_minor_0 1 rfl rfl)
theorem dX1_minor_4 : decode cX1_minor 4 = .ok (.istore 5, 2) := dk_54 5 (dk_at dksX1_minor_0 4 rfl rfl)
theorem dX1_minor_6 : decode cX1_minor 6 = .ok (.iconst 0, 1) := dk_3 (dk_at dksX1_minor_0 6 rfl rfl)
theorem dX1_minor_7 : decode cX1_minor 7 = .ok (.istore 6, 2) := dk_54 6 (dk_at dksX1_minor_0 7 rfl rfl)
theorem dX1_minor_9 : decode cX1_minor 9 = .ok (.iload 6, 2) := dk_21 6 (dk_at dksX1_minor_0 9 rfl rfl)
theorem dX1_minor_11 : decode cX1_minor 11 = .ok (.iload 5, 2) := dk_21 5 (dk_at dksX1_minor_0 11 rfl rfl)
theorem dX1_minor_13 : decode cX1_minor 13 = .ok (.iload 5, 2) := dk_21 5 (dk_at dksX1_minor_0 13 rfl rfl)
theorem dX1_minor_15 : decode cX1_minor 15 = .ok (.imul, 1) := dk_104 (dk_at dksX1_minor_0 15 rfl rfl)
theorem dX1_minor_16 : decode cX1_minor 16 = .ok (.if_icmp .ge 54, 3) := dk_162 0 54 (dk_at dksX1_minor_0 16 rfl rfl)
theorem dX1_minor_19 : decode cX1_minor 19 = .ok (.aload_n 0, 1) := dk_42 (dk_at dksX1_minor_0 19 rfl rfl)
theorem dX1_minor_20 : decode cX1_minor 20 = .ok (.getfield 29, 3) := dk_180 0 29 (dk_at dksX1_minor_0 20 rfl rfl)
theorem dX1_minor_23 : decode cX1_minor 23 = .ok (.bipush 6, 2) := dk_16 6 (dk_at dksX1_minor_1 0 rfl rfl)
theorem dX1_minor_25 : decode cX1_minor 25 = .ok (.iload 6, 2) := dk_21 6 (dk_at dksX1_minor_1 2 rfl rfl)
theorem dX1_minor_27 : decode cX1_minor 27 = .ok (.iload 5, 2) := dk_21 5 (dk_at dksX1_minor_1 4 rfl rfl)
theorem dX1_minor_29 : decode cX1_minor 29 = .ok (.idiv, 1) := dk_108 (dk_at dksX1_minor_1 6 rfl rfl)
theorem dX1_minor_30 : decode cX1_minor 30 = .ok (.imul, 1) := dk_104 (dk_at dksX1_minor_1 7 rfl rfl)
theorem dX1_minor_31 : decode cX1_minor 31 = .ok (.iload 6, 2) := dk_21 6 (dk_at dksX1_minor_1 8 rfl rfl)
theorem dX1_minor_33 : decode cX1_minor 33 = .ok (.iload 5, 2) := dk_21 5 (dk_at dksX1_minor_1 10 rfl rfl)
theorem dX1_minor_35 : decode cX1_minor 35 = .ok (.irem, 1) := dk_112 (dk_at dksX1_minor_1 12 rfl rfl)
theorem dX1_minor_36 : decode cX1_minor 36 = .ok (.iadd, 1) := dk_96 (dk_at dksX1_minor_1 13 rfl rfl)
theorem dX1_minor_37 : decode cX1_minor 37 = .ok (.aload_n 0, 1) := dk_42 (dk_at dksX1_minor_1 14 rfl rfl)
theorem dX1_minor_38 : decode cX1_minor 38 = .ok (.iload_n 1, 1) := dk_27 (dk_at dksX1_minor_1 15 rfl rfl)
theorem dX1_minor_39 : decode cX1_minor 39 = .ok (.iload_n 2, 1) := dk_28 (dk_at dksX1_minor_1 16 rfl rfl)
theorem dX1_minor_40 : decode cX1_minor 40 = .ok (.iload 6, 2) := dk_21 6 (dk_at dksX1_minor_1 17 rfl rfl)
theorem dX1_minor_42 : decode cX1_minor 42 = .ok (.iload 5, 2) := dk_21 5 (dk_at dksX1_minor_1 19 rfl rfl)
theorem dX1_minor_44 : decode cX1_minor 44 = .ok (.idiv, 1) := dk_108 (dk_at dksX1_minor_1 21 rfl rfl)
theorem dX1_minor_45 : decode cX1_minor 45 = .ok (.invokestatic 102, 3) := dk_184 0 102 (dk_at dksX1_minor_2 0 rfl rfl)
theorem dX1_minor_48 : decode cX1_minor 48 = .ok (.iload_n 3, 1) := dk_29 (dk_at dksX1_minor_2 3 rfl rfl)
theorem dX1_minor_49 : decode cX1_minor 49 = .ok (.iload 6, 2) := dk_21 6 (dk_at dksX1_minor_2 4 rfl rfl)
theorem dX1_minor_51 : decode cX1_minor 51 = .ok (.iload 5, 2) := dk_21 5 (dk_at dksX1_minor_2 6 rfl rfl)
theorem dX1_minor_53 : decode cX1_minor 53 = .ok (.irem, 1) := dk_112 (dk_at dksX1_minor_2 8 rfl rfl)
theorem dX1_minor_54 : decode cX1_minor 54 = .ok (.invokestatic 102, 3) := dk_184 0 102 (dk_at dksX1_minor_2 9 rfl rfl)
theorem dX1_minor_57 : decode cX1_minor 57 = .ok (.iload 4, 2) := dk_21 4 (dk_at dksX1_minor_2 12 rfl rfl)
theorem dX1_minor_59 : decode cX1_minor 59 = .ok (.invokevirtual 105, 3) := dk_182 0 105 (dk_at dksX1_minor_2 14 rfl rfl)
theorem dX1_minor_62 : decode cX1_minor 62 = .ok (.i2l, 1) := dk_133 (dk_at dksX1_minor_2 17 rfl rfl)
theorem dX1_minor_63 : decode cX1_minor 63 = .ok (.lastore, 1) := dk_80 (dk_at dksX1_minor_2 18 rfl rfl)
theorem dX1_minor_64 : decode cX1_minor 64 = .ok (.iinc 6 1, 3) := dk_132 6 1 (dk_at dksX1_minor_2 19 rfl rfl)
theorem dX1_minor_67 : decode cX1_minor 67 = .ok (.goto (-58), 3) := dk_167 255 198 (dk_at dksX1_minor_3 0 rfl rfl)
theorem dX1_minor_70 : decode cX1_minor 70 = .ok (.aload_n 0, 1) := dk_42 (dk_at dksX1_minor_3 3 rfl rfl)
theorem dX1_minor_71 : decode cX1_minor 71 = .ok (.iload 5, 2) := dk_21 5 (dk_at dksX1_minor_3 4 rfl rfl)
theorem dX1_minor_73 : decode cX1_minor 73 = .ok (.invokevirtual 109, 3) := dk_182 0 109 (dk_at dksX1_minor_3 6 rfl rfl)
theorem dX1_minor_76 : decode cX1_minor 76 = .ok (.lreturn, 1) := dk_173 (dk_at dksX1_minor_3 9 rfl rfl)
abbrev cX1_nth : ByteArray := prog_14_method_29_code
def yX1_nth : MethodName := ⟨RX1, "nth", "(II)I"⟩
def dkwX1_nth_1 : List UInt8 := [153, 0, 7, 4, 167, 0, 4, 3, 100, 61, 132, 3, 1, 167, 255, 225, 29, 172]
abbrev dktX1_nth_1 : List UInt8 := dkwX1_nth_1 ++ []
def dkwX1_nth_0 : List UInt8 := [27, 61, 3, 62, 28, 157, 0, 11, 26, 29, 184, 0, 48, 154, 0, 25, 28, 26, 29, 184, 0, 48]
abbrev dktX1_nth_0 : List UInt8 := dkwX1_nth_0 ++ dktX1_nth_1
theorem dksX1_nth_0 : cX1_nth.data.toList.drop 0 = dktX1_nth_0 := by decide +kernel
theorem dksX1_nth_1 : cX1_nth.data.toList.drop 22 = dktX1_nth_1 := dk_seg dksX1_nth_0 22 rfl rfl
theorem dX1_nth_0 : decode cX1_nth 0 = .ok (.iload_n 1, 1) := dk_27 (dk_at dksX1_nth_0 0 rfl rfl)
theorem dX1_nth_1 : decode cX1_nth 1 = .ok (.istore_n 2, 1) := dk_61 (dk_at dksX1_nth_0 1 rfl rfl)
theorem dX1_nth_2 : decode cX1_nth 2 = .ok (.iconst 0, 1) := dk_3 (dk_at dksX1_nth_0 2 rfl rfl)
theorem dX1_nth_3 : decode cX1_nth 3 = .ok (.istore_n 3, 1) := dk_62 (dk_at dksX1_nth_0 3 rfl rfl)
theorem dX1_nth_4 : decode cX1_nth 4 = .ok (.iload_n 2, 1) := dk_28 (dk_at dksX1_nth_0 4 rfl rfl)
theorem dX1_nth_5 : decode cX1_nth 5 = .ok (.ifCond .gt 11, 3) := dk_157 0 11 (dk_at dksX1_nth_0 5 rfl rfl)
theorem dX1_nth_8 : decode cX1_nth 8 = .ok (.iload_n 0, 1) := dk_26 (dk_at dksX1_nth_0 8 rfl rfl)
theorem dX1_nth_9 : decode cX1_nth 9 = .ok (.iload_n 3, 1) := dk_29 (dk_at dksX1_nth_0 9 rfl rfl)
theorem dX1_nth_10 : decode cX1_nth 10 = .ok (.invokestatic 48, 3) := dk_184 0 48 (dk_at dksX1_nth_0 10 rfl rfl)
theorem dX1_nth_13 : decode cX1_nth 13 = .ok (.ifCond .ne 25, 3) := dk_154 0 25 (dk_at dksX1_nth_0 13 rfl rfl)
theorem dX1_nth_16 : decode cX1_nth 16 = .ok (.iload_n 2, 1) := dk_28 (dk_at dksX1_nth_0 16 rfl rfl)
theorem dX1_nth_17 : decode cX1_nth 17 = .ok (.iload_n 0, 1) := dk_26 (dk_at dksX1_nth_0 17 rfl rfl)
theorem dX1_nth_18 : decode cX1_nth 18 = .ok (.iload_n 3, 1) := dk_29 (dk_at dksX1_nth_0 18 rfl rfl)
theorem dX1_nth_19 : decode cX1_nth 19 = .ok (.invokestatic 48, 3) := dk_184 0 48 (dk_at dksX1_nth_0 19 rfl rfl)
theorem dX1_nth_22 : decode cX1_nth 22 = .ok (.ifCond .eq 7, 3) := dk_153 0 7 (dk_at dksX1_nth_1 0 rfl rfl)
theorem dX1_nth_25 : decode cX1_nth 25 = .ok (.iconst 1, 1) := dk_4 (dk_at dksX1_nth_1 3 rfl rfl)
theorem dX1_nth_26 : decode cX1_nth 26 = .ok (.goto 4, 3) := dk_167 0 4 (dk_at dksX1_nth_1 4 rfl rfl)
theorem dX1_nth_29 : decode cX1_nth 29 = .ok (.iconst 0, 1) := dk_3 (dk_at dksX1_nth_1 7 rfl rfl)
theorem dX1_nth_30 : decode cX1_nth 30 = .ok (.isub, 1) := dk_100 (dk_at dksX1_nth_1 8 rfl rfl)
theorem dX1_nth_31 : decode cX1_nth 31 = .ok (.istore_n 2, 1) := dk_61 (dk_at dksX1_nth_1 9 rfl rfl)
theorem dX1_nth_32 : decode cX1_nth 32 = .ok (.iinc 3 1, 3) := dk_132 3 1 (dk_at dksX1_nth_1 10 rfl rfl)
theorem dX1_nth_35 : decode cX1_nth 35 = .ok (.goto (-31), 3) := dk_167 255 225 (dk_at dksX1_nth_1 13 rfl rfl)
theorem dX1_nth_38 : decode cX1_nth 38 = .ok (.iload_n 3, 1) := dk_29 (dk_at dksX1_nth_1 16 rfl rfl)
theorem dX1_nth_39 : decode cX1_nth 39 = .ok (.ireturn, 1) := dk_172 (dk_at dksX1_nth_1 17 rfl rfl)
abbrev cX1_wide : ByteArray := prog_14_method_28_code
def yX1_wide : MethodName := ⟨RX1, "wide", "(IIII)I"⟩
def dkwX1_wide_1 : List UInt8 := [46, 167, 0, 10, 42, 27, 28, 29, 182, 0, 77, 172]
abbrev dktX1_wide_1 : List UInt8 := dkwX1_wide_1 ++ []
def dkwX1_wide_0 : List UInt8 := [27, 5, 160, 0, 26, 29, 7, 160, 0, 21, 42, 180, 0, 7, 16, 45, 16, 6, 21, 4, 104, 96, 28, 96]
abbrev dktX1_wide_0 : List UInt8 := dkwX1_wide_0 ++ dktX1_wide_1
theorem dksX1_wide_0 : cX1_wide.data.toList.drop 0 = dktX1_wide_0 := by decide +kernel
theorem dksX1_wide_1 : cX1_wide.data.toList.drop 24 = dktX1_wide_1 := dk_seg dksX1_wide_0 24 rfl rfl
theorem dX1_wide_0 : decode cX1_wide 0 = .ok (.iload_n 1, 1) := dk_27 (dk_at dksX1_wide_0 0 rfl rfl)
theorem dX1_wide_1 : decode cX1_wide 1 = .ok (.iconst 2, 1) := dk_5 (dk_at dksX1_wide_0 1 rfl rfl)
theorem dX1_wide_2 : decode cX1_wide 2 = .ok (.if_icmp .ne 26, 3) := dk_160 0 26 (dk_at dksX1_wide_0 2 rfl rfl)
theorem dX1_wide_5 : decode cX1_wide 5 = .ok (.iload_n 3, 1) := dk_29 (dk_at dksX1_wide_0 5 rfl rfl)
theorem dX1_wide_6 : decode cX1_wide 6 = .ok (.iconst 4, 1) := dk_7 (dk_at dksX1_wide_0 6 rfl rfl)
theorem dX1_wide_7 : decode cX1_wide 7 = .ok (.if_icmp .ne 21, 3) := dk_160 0 21 (dk_at dksX1_wide_0 7 rfl rfl)
theorem dX1_wide_10 : decode cX1_wide 10 = .ok (.aload_n 0, 1) := dk_42 (dk_at dksX1_wide_0 10 rfl rfl)
theorem dX1_wide_11 : decode cX1_wide 11 = .ok (.getfield 7, 3) := dk_180 0 7 (dk_at dksX1_wide_0 11 rfl rfl)
theorem dX1_wide_14 : decode cX1_wide 14 = .ok (.bipush 45, 2) := dk_16 45 (dk_at dksX1_wide_0 14 rfl rfl)
theorem dX1_wide_16 : decode cX1_wide 16 = .ok (.bipush 6, 2) := dk_16 6 (dk_at dksX1_wide_0 16 rfl rfl)
theorem dX1_wide_18 : decode cX1_wide 18 = .ok (.iload 4, 2) := dk_21 4 (dk_at dksX1_wide_0 18 rfl rfl)
theorem dX1_wide_20 : decode cX1_wide 20 = .ok (.imul, 1) := dk_104 (dk_at dksX1_wide_0 20 rfl rfl)
theorem dX1_wide_21 : decode cX1_wide 21 = .ok (.iadd, 1) := dk_96 (dk_at dksX1_wide_0 21 rfl rfl)
theorem dX1_wide_22 : decode cX1_wide 22 = .ok (.iload_n 2, 1) := dk_28 (dk_at dksX1_wide_0 22 rfl rfl)
theorem dX1_wide_23 : decode cX1_wide 23 = .ok (.iadd, 1) := dk_96 (dk_at dksX1_wide_0 23 rfl rfl)
theorem dX1_wide_24 : decode cX1_wide 24 = .ok (.iaload, 1) := dk_46 (dk_at dksX1_wide_1 0 rfl rfl)
theorem dX1_wide_25 : decode cX1_wide 25 = .ok (.goto 10, 3) := dk_167 0 10 (dk_at dksX1_wide_1 1 rfl rfl)
theorem dX1_wide_28 : decode cX1_wide 28 = .ok (.aload_n 0, 1) := dk_42 (dk_at dksX1_wide_1 4 rfl rfl)
theorem dX1_wide_29 : decode cX1_wide 29 = .ok (.iload_n 1, 1) := dk_27 (dk_at dksX1_wide_1 5 rfl rfl)
theorem dX1_wide_30 : decode cX1_wide 30 = .ok (.iload_n 2, 1) := dk_28 (dk_at dksX1_wide_1 6 rfl rfl)
theorem dX1_wide_31 : decode cX1_wide 31 = .ok (.iload_n 3, 1) := dk_29 (dk_at dksX1_wide_1 7 rfl rfl)
theorem dX1_wide_32 : decode cX1_wide 32 = .ok (.invokevirtual 77, 3) := dk_182 0 77 (dk_at dksX1_wide_1 8 rfl rfl)
theorem dX1_wide_35 : decode cX1_wide 35 = .ok (.ireturn, 1) := dk_172 (dk_at dksX1_wide_1 11 rfl rfl)
abbrev cX1_determinant : ByteArray := prog_14_method_23_code
def yX1_determinant : MethodName := ⟨RX1, "determinant", "(I)J"⟩
def dkwX1_determinant_8 : List UInt8 := [21, 6, 96, 47, 55, 4, 132, 6, 1, 167, 255, 65, 32, 22, 4, 105, 173]
abbrev dktX1_determinant_8 : List UInt8 := dkwX1_determinant_8 ++ []
def dkwX1_determinant_7 : List UInt8 := [109, 80, 132, 9, 1, 167, 255, 176, 132, 8, 1, 167, 255, 158, 42, 180, 0, 29, 16, 6, 21, 6, 104]
abbrev dktX1_determinant_7 : List UInt8 := dkwX1_determinant_7 ++ dktX1_determinant_8
def dkwX1_determinant_6 : List UInt8 := [21, 8, 104, 21, 6, 96, 47, 42, 180, 0, 29, 16, 6, 21, 6, 104, 21, 9, 96, 47, 105, 101, 22, 4]
abbrev dktX1_determinant_6 : List UInt8 := dkwX1_determinant_6 ++ dktX1_determinant_7
def dkwX1_determinant_5 : List UInt8 := [21, 9, 96, 47, 42, 180, 0, 29, 16, 6, 21, 6, 104, 21, 6, 96, 47, 105, 42, 180, 0, 29, 16, 6]
abbrev dktX1_determinant_5 : List UInt8 := dkwX1_determinant_5 ++ dktX1_determinant_6
def dkwX1_determinant_4 : List UInt8 := [162, 0, 80, 42, 180, 0, 29, 16, 6, 21, 8, 104, 21, 9, 96, 42, 180, 0, 29, 16, 6, 21, 8, 104]
abbrev dktX1_determinant_4 : List UInt8 := dkwX1_determinant_4 ++ dktX1_determinant_5
def dkwX1_determinant_3 : List UInt8 := [117, 65, 21, 6, 4, 96, 54, 8, 21, 8, 27, 162, 0, 98, 21, 6, 4, 96, 54, 9, 21, 9, 27]
abbrev dktX1_determinant_3 : List UInt8 := dkwX1_determinant_3 ++ dktX1_determinant_4
def dkwX1_determinant_2 : List UInt8 := [21, 7, 27, 160, 0, 5, 9, 173, 21, 7, 21, 6, 164, 0, 14, 42, 21, 7, 21, 6, 182, 0, 84, 32]
abbrev dktX1_determinant_2 : List UInt8 := dkwX1_determinant_2 ++ dktX1_determinant_3
def dkwX1_determinant_1 : List UInt8 := [42, 180, 0, 29, 16, 6, 21, 7, 104, 21, 6, 96, 47, 9, 148, 154, 0, 9, 132, 7, 1, 167, 255, 229]
abbrev dktX1_determinant_1 : List UInt8 := dkwX1_determinant_1 ++ dktX1_determinant_2
def dkwX1_determinant_0 : List UInt8 := [10, 65, 10, 55, 4, 3, 54, 6, 21, 6, 27, 162, 0, 191, 21, 6, 54, 7, 21, 7, 27, 162, 0, 27]
abbrev dktX1_determinant_0 : List UInt8 := dkwX1_determinant_0 ++ dktX1_determinant_1
theorem dksX1_determinant_0 : cX1_determinant.data.toList.drop 0 = dktX1_determinant_0 := by decide +kernel
theorem dksX1_determinant_1 : cX1_determinant.data.toList.drop 24 = dktX1_determinant_1 := dk_seg dksX1_determinant_0 24 rfl rfl
theorem dksX1_determinant_2 : cX1_determinant.data.toList.drop 48 = dktX1_determinant_2 := dk_seg dksX1_determinant_1 24 rfl rfl
theorem dksX1_determinant_3 : cX1_determinant.data.toList.drop 72 = dktX1_determinant_3 := dk_seg dksX1_determinant_2 24 rfl rfl
theorem dksX1_determinant_4 : cX1_determinant.data.toList.drop 95 = dktX1_determinant_4 := dk_seg dksX1_determinant_3 23 rfl rfl
theorem dksX1_determinant_5 : cX1_determinant.data.toList.drop 119 = dktX1_determinant_5 := dk_seg dksX1_determinant_4 24 rfl rfl
theorem dksX1_determinant_6 : cX1_determinant.data.toList.drop 143 = dktX1_determinant_6 := dk_seg dksX1_determinant_5 24 rfl rfl
theorem dksX1_determinant_7 : cX1_determinant.data.toList.drop 167 = dktX1_determinant_7 := dk_seg dksX1_determinant_6 24 rfl rfl
theorem dksX1_determinant_8 : cX1_determinant.data.toList.drop 190 = dktX1_determinant_8 := dk_seg dksX1_determinant_7 23 rfl rfl
theorem dX1_determinant_0 : decode cX1_determinant 0 = .ok (.lconst 1, 1) := dk_10 (dk_at dksX1_determinant_0 0 rfl rfl)
theorem dX1_determinant_1 : decode cX1_determinant 1 = .ok (.lstore_n 2, 1) := dk_65 (dk_at dksX1_determinant_0 1 rfl rfl)
theorem dX1_determinant_2 : decode cX1_determinant 2 = .ok (.lconst 1, 1) := dk_10 (dk_at dksX1_determinant_0 2 rfl rfl)
theorem dX1_determinant_3 : decode cX1_determinant 3 = .ok (.lstore 4, 2) := dk_55 4 (dk_at dksX1_determinant_0 3 rfl rfl)
theorem dX1_determinant_5 : decode cX1_determinant 5 = .ok (.iconst 0, 1) := dk_3 (dk_at dksX1_determinant_0 5 rfl rfl)
theorem dX1_determinant_6 : decode cX1_determinant 6 = .ok (.istore 6, 2) := dk_54 6 (dk_at dksX1_determinant_0 6 rfl rfl)
theorem dX1_determinant_8 : decode cX1_determinant 8 = .ok (.iload 6, 2) := dk_21 6 (dk_at dksX1_determinant_0 8 rfl rfl)
theorem dX1_determinant_10 : decode cX1_determinant 10 = .ok (.iload_n 1, 1) := dk_27 (dk_at dksX1_determinant_0 10 rfl rfl)
theorem dX1_determinant_11 : decode cX1_determinant 11 = .ok (.if_icmp .ge 191, 3) := dk_162 0 191 (dk_at dksX1_determinant_0 11 rfl rfl)
theorem dX1_determinant_14 : decode cX1_determinant 14 = .ok (.iload 6, 2) := dk_21 6 (dk_at dksX1_determinant_0 14 rfl rfl)
theorem dX1_determinant_16 : decode cX1_determinant 16 = .ok (.istore 7, 2) := dk_54 7 (dk_at dksX1_determinant_0 16 rfl rfl)
theorem dX1_determinant_18 : decode cX1_determinant 18 = .ok (.iload 7, 2) := dk_21 7 (dk_at dksX1_determinant_0 18 rfl rfl)
theorem dX1_determinant_20 : decode cX1_determinant 20 = .ok (.iload_n 1, 1) := dk_27 (dk_at dksX1_determinant_0 20 rfl rfl)
theorem dX1_determinant_21 : decode cX1_determinant 21 = .ok (.if_icmp .ge 27, 3) := dk_162 0 27 (dk_at dksX1_determinant_0 21 rfl rfl)
theorem dX1_determinant_24 : decode cX1_determinant 24 = .ok (.aload_n 0, 1) := dk_42 (dk_at dksX1_determinant_1 0 rfl rfl)
theorem dX1_determinant_25 : decode cX1_determinant 25 = .ok (.getfield 29, 3) := dk_180 0 29 (dk_at dksX1_determinant_1 1 rfl rfl)
theorem dX1_determinant_28 : decode cX1_determinant 28 = .ok (.bipush 6, 2) := dk_16 6 (dk_at dksX1_determinant_1 4 rfl rfl)
theorem dX1_determinant_30 : decode cX1_determinant 30 = .ok (.iload 7, 2) := dk_21 7 (dk_at dksX1_determinant_1 6 rfl rfl)
theorem dX1_determinant_32 : decode cX1_determinant 32 = .ok (.imul, 1) := dk_104 (dk_at dksX1_determinant_1 8 rfl rfl)
theorem dX1_determinant_33 : decode cX1_determinant 33 = .ok (.iload 6, 2) := dk_21 6 (dk_at dksX1_determinant_1 9 rfl rfl)
theorem dX1_determinant_35 : decode cX1_determinant 35 = .ok (.iadd, 1) := dk_96 (dk_at dksX1_determinant_1 11 rfl rfl)
theorem dX1_determinant_36 : decode cX1_determinant 36 = .ok (.laload, 1) := dk_47 (dk_at dksX1_determinant_1 12 rfl rfl)
theorem dX1_determinant_37 : decode cX1_determinant 37 = .ok (.lconst 0, 1) := dk_9 (dk_at dksX1_determinant_1 13 rfl rfl)
theorem dX1_determinant_38 : decode cX1_determinant 38 = .ok (.lcmp, 1) := dk_148 (dk_at dksX1_determinant_1 14 rfl rfl)
theorem dX1_determinant_39 : decode cX1_determinant 39 = .ok (.ifCond .ne 9, 3) := dk_154 0 9 (dk_at dksX1_determinant_1 15 rfl rfl)
theorem dX1_determinant_42 : decode cX1_determinant 42 = .ok (.iinc 7 1, 3) := dk_132 7 1 (dk_at dksX1_determinant_1 18 rfl rfl)
theorem dX1_determinant_45 : decode cX1_determinant 45 = .ok (.goto (-27), 3) := dk_167 255 229 (dk_at dksX1_determinant_1 21 rfl rfl)
theorem dX1_determinant_48 : decode cX1_determinant 48 = .ok (.iload 7, 2) := dk_21 7 (dk_at dksX1_determinant_2 0 rfl rfl)
theorem dX1_determinant_50 : decode cX1_determinant 50 = .ok (.iload_n 1, 1) := dk_27 (dk_at dksX1_determinant_2 2 rfl rfl)
theorem dX1_determinant_51 : decode cX1_determinant 51 = .ok (.if_icmp .ne 5, 3) := dk_160 0 5 (dk_at dksX1_determinant_2 3 rfl rfl)
theorem dX1_determinant_54 : decode cX1_determinant 54 = .ok (.lconst 0, 1) := dk_9 (dk_at dksX1_determinant_2 6 rfl rfl)
theorem dX1_determinant_55 : decode cX1_determinant 55 = .ok (.lreturn, 1) := dk_173 (dk_at dksX1_determinant_2 7 rfl rfl)
theorem dX1_determinant_56 : decode cX1_determinant 56 = .ok (.iload 7, 2) := dk_21 7 (dk_at dksX1_determinant_2 8 rfl rfl)
theorem dX1_determinant_58 : decode cX1_determinant 58 = .ok (.iload 6, 2) := dk_21 6 (dk_at dksX1_determinant_2 10 rfl rfl)
theorem dX1_determinant_60 : decode cX1_determinant 60 = .ok (.if_icmp .le 14, 3) := dk_164 0 14 (dk_at dksX1_determinant_2 12 rfl rfl)
theorem dX1_determinant_63 : decode cX1_determinant 63 = .ok (.aload_n 0, 1) := dk_42 (dk_at dksX1_determinant_2 15 rfl rfl)
theorem dX1_determinant_64 : decode cX1_determinant 64 = .ok (.iload 7, 2) := dk_21 7 (dk_at dksX1_determinant_2 16 rfl rfl)
theorem dX1_determinant_66 : decode cX1_determinant 66 = .ok (.iload 6, 2) := dk_21 6 (dk_at dksX1_determinant_2 18 rfl rfl)
theorem dX1_determinant_68 : decode cX1_determinant 68 = .ok (.invokevirtual 84, 3) := dk_182 0 84 (dk_at dksX1_determinant_2 20 rfl rfl)
theorem dX1_determinant_71 : decode cX1_determinant 71 = .ok (.lload_n 2, 1) := dk_32 (dk_at dksX1_determinant_2 23 rfl rfl)
theorem dX1_determinant_72 : decode cX1_determinant 72 = .ok (.lneg, 1) := dk_117 (dk_at dksX1_determinant_3 0 rfl rfl)
theorem dX1_determinant_73 : decode cX1_determinant 73 = .ok (.lstore_n 2, 1) := dk_65 (dk_at dksX1_determinant_3 1 rfl rfl)
theorem dX1_determinant_74 : decode cX1_determinant 74 = .ok (.iload 6, 2) := dk_21 6 (dk_at dksX1_determinant_3 2 rfl rfl)
theorem dX1_determinant_76 : decode cX1_determinant 76 = .ok (.iconst 1, 1) := dk_4 (dk_at dksX1_determinant_3 4 rfl rfl)
theorem dX1_determinant_77 : decode cX1_determinant 77 = .ok (.iadd, 1) := dk_96 (dk_at dksX1_determinant_3 5 rfl rfl)
theorem dX1_determinant_78 : decode cX1_determinant 78 = .ok (.istore 8, 2) := dk_54 8 (dk_at dksX1_determinant_3 6 rfl rfl)
theorem dX1_determinant_80 : decode cX1_determinant 80 = .ok (.iload 8, 2) := dk_21 8 (dk_at dksX1_determinant_3 8 rfl rfl)
theorem dX1_determinant_82 : decode cX1_determinant 82 = .ok (.iload_n 1, 1) := dk_27 (dk_at dksX1_determinant_3 10 rfl rfl)
theorem dX1_determinant_83 : decode cX1_determinant 83 = .ok (.if_icmp .ge 98, 3) := dk_162 0 98 (dk_at dksX1_determinant_3 11 rfl rfl)
theorem dX1_determinant_86 : decode cX1_determinant 86 = .ok (.iload 6, 2) := dk_21 6 (dk_at dksX1_determinant_3 14 rfl rfl)
theorem dX1_determinant_88 : decode cX1_determinant 88 = .ok (.iconst 1, 1) := dk_4 (dk_at dksX1_determinant_3 16 rfl rfl)
theorem dX1_determinant_89 : decode cX1_determinant 89 = .ok (.iadd, 1) := dk_96 (dk_at dksX1_determinant_3 17 rfl rfl)
theorem dX1_determinant_90 : decode cX1_determinant 90 = .ok (.istore 9, 2) := dk_54 9 (dk_at dksX1_determinant_3 18 rfl rfl)
theorem dX1_determinant_92 : decode cX1_determinant 92 = .ok (.iload 9, 2) := dk_21 9 (dk_at dksX1_determinant_3 20 rfl rfl)
theorem dX1_determinant_94 : decode cX1_determinant 94 = .ok (.iload_n 1, 1) := dk_27 (dk_at dksX1_determinant_3 22 rfl rfl)
theorem dX1_determinant_95 : decode cX1_determinant 95 = .ok (.if_icmp .ge 80, 3) := dk_162 0 80 (dk_at dksX1_determinant_4 0 rfl rfl)
theorem dX1_determinant_98 : decode cX1_determinant 98 = .ok (.aload_n 0, 1) := dk_42 (dk_at dksX1_determinant_4 3 rfl rfl)
theorem dX1_determinant_99 : decode cX1_determinant 99 = .ok (.getfield 29, 3) := dk_180 0 29 (dk_at dksX1_determinant_4 4 rfl rfl)
theorem dX1_determinant_102 : decode cX1_determinant 102 = .ok (.bipush 6, 2) := dk_16 6 (dk_at dksX1_determinant_4 7 rfl rfl)
theorem dX1_determinant_104 : decode cX1_determinant 104 = .ok (.iload 8, 2) := dk_21 8 (dk_at dksX1_determinant_4 9 rfl rfl)
theorem dX1_determinant_106 : decode cX1_determinant 106 = .ok (.imul, 1) := dk_104 (dk_at dksX1_determinant_4 11 rfl rfl)
theorem dX1_determinant_107 : decode cX1_determinant 107 = .ok (.iload 9, 2) := dk_21 9 (dk_at dksX1_determinant_4 12 rfl rfl)
theorem dX1_determinant_109 : decode cX1_determinant 109 = .ok (.iadd, 1) := dk_96 (dk_at dksX1_determinant_4 14 rfl rfl)
theorem dX1_determinant_110 : decode cX1_determinant 110 = .ok (.aload_n 0, 1) := dk_42 (dk_at dksX1_determinant_4 15 rfl rfl)
theorem dX1_determinant_111 : decode cX1_determinant 111 = .ok (.getfield 29, 3) := dk_180 0 29 (dk_at dksX1_determinant_4 16 rfl rfl)
theorem dX1_determinant_114 : decode cX1_determinant 114 = .ok (.bipush 6, 2) := dk_16 6 (dk_at dksX1_determinant_4 19 rfl rfl)
theorem dX1_determinant_116 : decode cX1_determinant 116 = .ok (.iload 8, 2) := dk_21 8 (dk_at dksX1_determinant_4 21 rfl rfl)
theorem dX1_determinant_118 : decode cX1_determinant 118 = .ok (.imul, 1) := dk_104 (dk_at dksX1_determinant_4 23 rfl rfl)
theorem dX1_determinant_119 : decode cX1_determinant 119 = .ok (.iload 9, 2) := dk_21 9 (dk_at dksX1_determinant_5 0 rfl rfl)
theorem dX1_determinant_121 : decode cX1_determinant 121 = .ok (.iadd, 1) := dk_96 (dk_at dksX1_determinant_5 2 rfl rfl)
theorem dX1_determinant_122 : decode cX1_determinant 122 = .ok (.laload, 1) := dk_47 (dk_at dksX1_determinant_5 3 rfl rfl)
theorem dX1_determinant_123 : decode cX1_determinant 123 = .ok (.aload_n 0, 1) := dk_42 (dk_at dksX1_determinant_5 4 rfl rfl)
theorem dX1_determinant_124 : decode cX1_determinant 124 = .ok (.getfield 29, 3) := dk_180 0 29 (dk_at dksX1_determinant_5 5 rfl rfl)
theorem dX1_determinant_127 : decode cX1_determinant 127 = .ok (.bipush 6, 2) := dk_16 6 (dk_at dksX1_determinant_5 8 rfl rfl)
theorem dX1_determinant_129 : decode cX1_determinant 129 = .ok (.iload 6, 2) := dk_21 6 (dk_at dksX1_determinant_5 10 rfl rfl)
theorem dX1_determinant_131 : decode cX1_determinant 131 = .ok (.imul, 1) := dk_104 (dk_at dksX1_determinant_5 12 rfl rfl)
theorem dX1_determinant_132 : decode cX1_determinant 132 = .ok (.iload 6, 2) := dk_21 6 (dk_at dksX1_determinant_5 13 rfl rfl)
theorem dX1_determinant_134 : decode cX1_determinant 134 = .ok (.iadd, 1) := dk_96 (dk_at dksX1_determinant_5 15 rfl rfl)
theorem dX1_determinant_135 : decode cX1_determinant 135 = .ok (.laload, 1) := dk_47 (dk_at dksX1_determinant_5 16 rfl rfl)
theorem dX1_determinant_136 : decode cX1_determinant 136 = .ok (.lmul, 1) := dk_105 (dk_at dksX1_determinant_5 17 rfl rfl)
theorem dX1_determinant_137 : decode cX1_determinant 137 = .ok (.aload_n 0, 1) := dk_42 (dk_at dksX1_determinant_5 18 rfl rfl)
theorem dX1_determinant_138 : decode cX1_determinant 138 = .ok (.getfield 29, 3) := dk_180 0 29 (dk_at dksX1_determinant_5 19 rfl rfl)
theorem dX1_determinant_141 : decode cX1_determinant 141 = .ok (.bipush 6, 2) := dk_16 6 (dk_at dksX1_determinant_5 22 rfl rfl)
theorem dX1_determinant_143 : decode cX1_determinant 143 = .ok (.iload 8, 2) := dk_21 8 (dk_at dksX1_determinant_6 0 rfl rfl)
theorem dX1_determinant_145 : decode cX1_determinant 145 = .ok (.imul, 1) := dk_104 (dk_at dksX1_determinant_6 2 rfl rfl)
theorem dX1_determinant_146 : decode cX1_determinant 146 = .ok (.iload 6, 2) := dk_21 6 (dk_at dksX1_determinant_6 3 rfl rfl)
theorem dX1_determinant_148 : decode cX1_determinant 148 = .ok (.iadd, 1) := dk_96 (dk_at dksX1_determinant_6 5 rfl rfl)
theorem dX1_determinant_149 : decode cX1_determinant 149 = .ok (.laload, 1) := dk_47 (dk_at dksX1_determinant_6 6 rfl rfl)
theorem dX1_determinant_150 : decode cX1_determinant 150 = .ok (.aload_n 0, 1) := dk_42 (dk_at dksX1_determinant_6 7 rfl rfl)
theorem dX1_determinant_151 : decode cX1_determinant 151 = .ok (.getfield 29, 3) := dk_180 0 29 (dk_at dksX1_determinant_6 8 rfl rfl)
theorem dX1_determinant_154 : decode cX1_determinant 154 = .ok (.bipush 6, 2) := dk_16 6 (dk_at dksX1_determinant_6 11 rfl rfl)
theorem dX1_determinant_156 : decode cX1_determinant 156 = .ok (.iload 6, 2) := dk_21 6 (dk_at dksX1_determinant_6 13 rfl rfl)
theorem dX1_determinant_158 : decode cX1_determinant 158 = .ok (.imul, 1) := dk_104 (dk_at dksX1_determinant_6 15 rfl rfl)
theorem dX1_determinant_159 : decode cX1_determinant 159 = .ok (.iload 9, 2) := dk_21 9 (dk_at dksX1_determinant_6 16 rfl rfl)
theorem dX1_determinant_161 : decode cX1_determinant 161 = .ok (.iadd, 1) := dk_96 (dk_at dksX1_determinant_6 18 rfl rfl)
theorem dX1_determinant_162 : decode cX1_determinant 162 = .ok (.laload, 1) := dk_47 (dk_at dksX1_determinant_6 19 rfl rfl)
theorem dX1_determinant_163 : decode cX1_determinant 163 = .ok (.lmul, 1) := dk_105 (dk_at dksX1_determinant_6 20 rfl rfl)
theorem dX1_determinant_164 : decode cX1_determinant 164 = .ok (.lsub, 1) := dk_101 (dk_at dksX1_determinant_6 21 rfl rfl)
theorem dX1_determinant_165 : decode cX1_determinant 165 = .ok (.lload 4, 2) := dk_22 4 (dk_at dksX1_determinant_6 22 rfl rfl)
theorem dX1_determinant_167 : decode cX1_determinant 167 = .ok (.ldiv, 1) := dk_109 (dk_at dksX1_determinant_7 0 rfl rfl)
theorem dX1_determinant_168 : decode cX1_determinant 168 = .ok (.lastore, 1) := dk_80 (dk_at dksX1_determinant_7 1 rfl rfl)
theorem dX1_determinant_169 : decode cX1_determinant 169 = .ok (.iinc 9 1, 3) := dk_132 9 1 (dk_at dksX1_determinant_7 2 rfl rfl)
theorem dX1_determinant_172 : decode cX1_determinant 172 = .ok (.goto (-80), 3) := dk_167 255 176 (dk_at dksX1_determinant_7 5 rfl rfl)
theorem dX1_determinant_175 : decode cX1_determinant 175 = .ok (.iinc 8 1, 3) := dk_132 8 1 (dk_at dksX1_determinant_7 8 rfl rfl)
theorem dX1_determinant_178 : decode cX1_determinant 178 = .ok (.goto (-98), 3) := dk_167 255 158 (dk_at dksX1_determinant_7 11 rfl rfl)
theorem dX1_determinant_181 : decode cX1_determinant 181 = .ok (.aload_n 0, 1) := dk_42 (dk_at dksX1_determinant_7 14 rfl rfl)
theorem dX1_determinant_182 : decode cX1_determinant 182 = .ok (.getfield 29, 3) := dk_180 0 29 (dk_at dksX1_determinant_7 15 rfl rfl)
theorem dX1_determinant_185 : decode cX1_determinant 185 = .ok (.bipush 6, 2) := dk_16 6 (dk_at dksX1_determinant_7 18 rfl rfl)
theorem dX1_determinant_187 : decode cX1_determinant 187 = .ok (.iload 6, 2) := dk_21 6 (dk_at dksX1_determinant_7 20 rfl rfl)
theorem dX1_determinant_189 : decode cX1_determinant 189 = .ok (.imul, 1) := dk_104 (dk_at dksX1_determinant_7 22 rfl rfl)
theorem dX1_determinant_190 : decode cX1_determinant 190 = .ok (.iload 6, 2) := dk_21 6 (dk_at dksX1_determinant_8 0 rfl rfl)
theorem dX1_determinant_192 : decode cX1_determinant 192 = .ok (.iadd, 1) := dk_96 (dk_at dksX1_determinant_8 2 rfl rfl)
theorem dX1_determinant_193 : decode cX1_determinant 193 = .ok (.laload, 1) := dk_47 (dk_at dksX1_determinant_8 3 rfl rfl)
theorem dX1_determinant_194 : decode cX1_determinant 194 = .ok (.lstore 4, 2) := dk_55 4 (dk_at dksX1_determinant_8 4 rfl rfl)
theorem dX1_determinant_196 : decode cX1_determinant 196 = .ok (.iinc 6 1, 3) := dk_132 6 1 (dk_at dksX1_determinant_8 6 rfl rfl)
theorem dX1_determinant_199 : decode cX1_determinant 199 = .ok (.goto (-191), 3) := dk_167 255 65 (dk_at dksX1_determinant_8 9 rfl rfl)
theorem dX1_determinant_202 : decode cX1_determinant 202 = .ok (.lload_n 2, 1) := dk_32 (dk_at dksX1_determinant_8 12 rfl rfl)
theorem dX1_determinant_203 : decode cX1_determinant 203 = .ok (.lload 4, 2) := dk_22 4 (dk_at dksX1_determinant_8 13 rfl rfl)
theorem dX1_determinant_205 : decode cX1_determinant 205 = .ok (.lmul, 1) := dk_105 (dk_at dksX1_determinant_8 15 rfl rfl)
theorem dX1_determinant_206 : decode cX1_determinant 206 = .ok (.lreturn, 1) := dk_173 (dk_at dksX1_determinant_8 16 rfl rfl)
abbrev cX1_swaps : ByteArray := prog_14_method_22_code
def yX1_swaps : MethodName := ⟨RX1, "swaps", "(II)V"⟩
def dkwX1_swaps_2 : List UInt8 := [180, 0, 29, 16, 6, 28, 104, 29, 96, 22, 4, 80, 132, 3, 1, 167, 255, 199, 177]
abbrev dktX1_swaps_2 : List UInt8 := dkwX1_swaps_2 ++ []
def dkwX1_swaps_1 : List UInt8 := [180, 0, 29, 16, 6, 27, 104, 29, 96, 42, 180, 0, 29, 16, 6, 28, 104, 29, 96, 47, 80, 42]
abbrev dktX1_swaps_1 : List UInt8 := dkwX1_swaps_1 ++ dktX1_swaps_2
def dkwX1_swaps_0 : List UInt8 := [3, 62, 29, 16, 6, 162, 0, 57, 42, 180, 0, 29, 16, 6, 27, 104, 29, 96, 47, 55, 4, 42]
abbrev dktX1_swaps_0 : List UInt8 := dkwX1_swaps_0 ++ dktX1_swaps_1
theorem dksX1_swaps_0 : cX1_swaps.data.toList.drop 0 = dktX1_swaps_0 := by decide +kernel
theorem dksX1_swaps_1 : cX1_swaps.data.toList.drop 22 = dktX1_swaps_1 := dk_seg dksX1_swaps_0 22 rfl rfl
theorem dksX1_swaps_2 : cX1_swaps.data.toList.drop 44 = dktX1_swaps_2 := dk_seg dksX1_swaps_1 22 rfl rfl
theorem dX1_swaps_0 : decode cX1_swaps 0 = .ok (.iconst 0, 1) := dk_3 (dk_at dksX1_swaps_0 0 rfl rfl)
theorem dX1_swaps_1 : decode cX1_swaps 1 = .ok (.istore_n 3, 1) := dk_62 (dk_at dksX1_swaps_0 1 rfl rfl)
theorem dX1_swaps_2 : decode cX1_swaps 2 = .ok (.iload_n 3, 1) := dk_29 (dk_at dksX1_swaps_0 2 rfl rfl)
theorem dX1_swaps_3 : decode cX1_swaps 3 = .ok (.bipush 6, 2) := dk_16 6 (dk_at dksX1_swaps_0 3 rfl rfl)
theorem dX1_swaps_5 : decode cX1_swaps 5 = .ok (.if_icmp .ge 57, 3) := dk_162 0 57 (dk_at dksX1_swaps_0 5 rfl rfl)
theorem dX1_swaps_8 : decode cX1_swaps 8 = .ok (.aload_n 0, 1) := dk_42 (dk_at dksX1_swaps_0 8 rfl rfl)
theorem dX1_swaps_9 : decode cX1_swaps 9 = .ok (.getfield 29, 3) := dk_180 0 29 (dk_at dksX1_swaps_0 9 rfl rfl)
theorem dX1_swaps_12 : decode cX1_swaps 12 = .ok (.bipush 6, 2) := dk_16 6 (dk_at dksX1_swaps_0 12 rfl rfl)
theorem dX1_swaps_14 : decode cX1_swaps 14 = .ok (.iload_n 1, 1) := dk_27 (dk_at dksX1_swaps_0 14 rfl rfl)
theorem dX1_swaps_15 : decode cX1_swaps 15 = .ok (.imul, 1) := dk_104 (dk_at dksX1_swaps_0 15 rfl rfl)
theorem dX1_swaps_16 : decode cX1_swaps 16 = .ok (.iload_n 3, 1) := dk_29 (dk_at dksX1_swaps_0 16 rfl rfl)
theorem dX1_swaps_17 : decode cX1_swaps 17 = .ok (.iadd, 1) := dk_96 (dk_at dksX1_swaps_0 17 rfl rfl)
theorem dX1_swaps_18 : decode cX1_swaps 18 = .ok (.laload, 1) := dk_47 (dk_at dksX1_swaps_0 18 rfl rfl)
theorem dX1_swaps_19 : decode cX1_swaps 19 = .ok (.lstore 4, 2) := dk_55 4 (dk_at dksX1_swaps_0 19 rfl rfl)
theorem dX1_swaps_21 : decode cX1_swaps 21 = .ok (.aload_n 0, 1) := dk_42 (dk_at dksX1_swaps_0 21 rfl rfl)
theorem dX1_swaps_22 : decode cX1_swaps 22 = .ok (.getfield 29, 3) := dk_180 0 29 (dk_at dksX1_swaps_1 0 rfl rfl)
theorem dX1_swaps_25 : decode cX1_swaps 25 = .ok (.bipush 6, 2) := dk_16 6 (dk_at dksX1_swaps_1 3 rfl rfl)
theorem dX1_swaps_27 : decode cX1_swaps 27 = .ok (.iload_n 1, 1) := dk_27 (dk_at dksX1_swaps_1 5 rfl rfl)
theorem dX1_swaps_28 : decode cX1_swaps 28 = .ok (.imul, 1) := dk_104 (dk_at dksX1_swaps_1 6 rfl rfl)
theorem dX1_swaps_29 : decode cX1_swaps 29 = .ok (.iload_n 3, 1) := dk_29 (dk_at dksX1_swaps_1 7 rfl rfl)
theorem dX1_swaps_30 : decode cX1_swaps 30 = .ok (.iadd, 1) := dk_96 (dk_at dksX1_swaps_1 8 rfl rfl)
theorem dX1_swaps_31 : decode cX1_swaps 31 = .ok (.aload_n 0, 1) := dk_42 (dk_at dksX1_swaps_1 9 rfl rfl)
theorem dX1_swaps_32 : decode cX1_swaps 32 = .ok (.getfield 29, 3) := dk_180 0 29 (dk_at dksX1_swaps_1 10 rfl rfl)
theorem dX1_swaps_35 : decode cX1_swaps 35 = .ok (.bipush 6, 2) := dk_16 6 (dk_at dksX1_swaps_1 13 rfl rfl)
theorem dX1_swaps_37 : decode cX1_swaps 37 = .ok (.iload_n 2, 1) := dk_28 (dk_at dksX1_swaps_1 15 rfl rfl)
theorem dX1_swaps_38 : decode cX1_swaps 38 = .ok (.imul, 1) := dk_104 (dk_at dksX1_swaps_1 16 rfl rfl)
theorem dX1_swaps_39 : decode cX1_swaps 39 = .ok (.iload_n 3, 1) := dk_29 (dk_at dksX1_swaps_1 17 rfl rfl)
theorem dX1_swaps_40 : decode cX1_swaps 40 = .ok (.iadd, 1) := dk_96 (dk_at dksX1_swaps_1 18 rfl rfl)
theorem dX1_swaps_41 : decode cX1_swaps 41 = .ok (.laload, 1) := dk_47 (dk_at dksX1_swaps_1 19 rfl rfl)
theorem dX1_swaps_42 : decode cX1_swaps 42 = .ok (.lastore, 1) := dk_80 (dk_at dksX1_swaps_1 20 rfl rfl)
theorem dX1_swaps_43 : decode cX1_swaps 43 = .ok (.aload_n 0, 1) := dk_42 (dk_at dksX1_swaps_1 21 rfl rfl)
theorem dX1_swaps_44 : decode cX1_swaps 44 = .ok (.getfield 29, 3) := dk_180 0 29 (dk_at dksX1_swaps_2 0 rfl rfl)
theorem dX1_swaps_47 : decode cX1_swaps 47 = .ok (.bipush 6, 2) := dk_16 6 (dk_at dksX1_swaps_2 3 rfl rfl)
theorem dX1_swaps_49 : decode cX1_swaps 49 = .ok (.iload_n 2, 1) := dk_28 (dk_at dksX1_swaps_2 5 rfl rfl)
theorem dX1_swaps_50 : decode cX1_swaps 50 = .ok (.imul, 1) := dk_104 (dk_at dksX1_swaps_2 6 rfl rfl)
theorem dX1_swaps_51 : decode cX1_swaps 51 = .ok (.iload_n 3, 1) := dk_29 (dk_at dksX1_swaps_2 7 rfl rfl)
theorem dX1_swaps_52 : decode cX1_swaps 52 = .ok (.iadd, 1) := dk_96 (dk_at dksX1_swaps_2 8 rfl rfl)
theorem dX1_swaps_53 : decode cX1_swaps 53 = .ok (.lload 4, 2) := dk_22 4 (dk_at dksX1_swaps_2 9 rfl rfl)
theorem dX1_swaps_55 : decode cX1_swaps 55 = .ok (.lastore, 1) := dk_80 (dk_at dksX1_swaps_2 11 rfl rfl)
theorem dX1_swaps_56 : decode cX1_swaps 56 = .ok (.iinc 3 1, 3) := dk_132 3 1 (dk_at dksX1_swaps_2 12 rfl rfl)
theorem dX1_swaps_59 : decode cX1_swaps 59 = .ok (.goto (-57), 3) := dk_167 255 199 (dk_at dksX1_swaps_2 15 rfl rfl)
theorem dX1_swaps_62 : decode cX1_swaps 62 = .ok (.return_, 1) := dk_177 (dk_at dksX1_swaps_2 18 rfl rfl)
abbrev cX1_gcd : ByteArray := prog_14_method_6_code
def yX1_gcd : MethodName := ⟨RX1, "gcd", "(JJ)J"⟩
def dkwX1_gcd_2 : List UInt8 := [22, 8, 55, 6, 167, 255, 234, 22, 4, 173]
abbrev dktX1_gcd_2 : List UInt8 := dkwX1_gcd_2 ++ []
def dkwX1_gcd_1 : List UInt8 := [167, 0, 4, 32, 55, 6, 22, 6, 9, 148, 153, 0, 21, 22, 4, 22, 6, 113, 55, 8, 22, 6, 55, 4]
abbrev dktX1_gcd_1 : List UInt8 := dkwX1_gcd_1 ++ dktX1_gcd_2
def dkwX1_gcd_0 : List UInt8 := [30, 9, 148, 156, 0, 8, 30, 117, 167, 0, 4, 30, 55, 4, 32, 9, 148, 156, 0, 8, 32, 117]
abbrev dktX1_gcd_0 : List UInt8 := dkwX1_gcd_0 ++ dktX1_gcd_1
theorem dksX1_gcd_0 : cX1_gcd.data.toList.drop 0 = dktX1_gcd_0 := by decide +kernel
theorem dksX1_gcd_1 : cX1_gcd.data.toList.drop 22 = dktX1_gcd_1 := dk_seg dksX1_gcd_0 22 rfl rfl
theorem dksX1_gcd_2 : cX1_gcd.data.toList.drop 46 = dktX1_gcd_2 := dk_seg dksX1_gcd_1 24 rfl rfl
theorem dX1_gcd_0 : decode cX1_gcd 0 = .ok (.lload_n 0, 1) := dk_30 (dk_at dksX1_gcd_0 0 rfl rfl)
theorem dX1_gcd_1 : decode cX1_gcd 1 = .ok (.lconst 0, 1) := dk_9 (dk_at dksX1_gcd_0 1 rfl rfl)
theorem dX1_gcd_2 : decode cX1_gcd 2 = .ok (.lcmp, 1) := dk_148 (dk_at dksX1_gcd_0 2 rfl rfl)
theorem dX1_gcd_3 : decode cX1_gcd 3 = .ok (.ifCond .ge 8, 3) := dk_156 0 8 (dk_at dksX1_gcd_0 3 rfl rfl)
theorem dX1_gcd_6 : decode cX1_gcd 6 = .ok (.lload_n 0, 1) := dk_30 (dk_at dksX1_gcd_0 6 rfl rfl)
theorem dX1_gcd_7 : decode cX1_gcd 7 = .ok (.lneg, 1) := dk_117 (dk_at dksX1_gcd_0 7 rfl rfl)
theorem dX1_gcd_8 : decode cX1_gcd 8 = .ok (.goto 4, 3) := dk_167 0 4 (dk_at dksX1_gcd_0 8 rfl rfl)
theorem dX1_gcd_11 : decode cX1_gcd 11 = .ok (.lload_n 0, 1) := dk_30 (dk_at dksX1_gcd_0 11 rfl rfl)
theorem dX1_gcd_12 : decode cX1_gcd 12 = .ok (.lstore 4, 2) := dk_55 4 (dk_at dksX1_gcd_0 12 rfl rfl)
theorem dX1_gcd_14 : decode cX1_gcd 14 = .ok (.lload_n 2, 1) := dk_32 (dk_at dksX1_gcd_0 14 rfl rfl)
theorem dX1_gcd_15 : decode cX1_gcd 15 = .ok (.lconst 0, 1) := dk_9 (dk_at dksX1_gcd_0 15 rfl rfl)
theorem dX1_gcd_16 : decode cX1_gcd 16 = .ok (.lcmp, 1) := dk_148 (dk_at dksX1_gcd_0 16 rfl rfl)
theorem dX1_gcd_17 : decode cX1_gcd 17 = .ok (.ifCond .ge 8, 3) := dk_156 0 8 (dk_at dksX1_gcd_0 17 rfl rfl)
theorem dX1_gcd_20 : decode cX1_gcd 20 = .ok (.lload_n 2, 1) := dk_32 (dk_at dksX1_gcd_0 20 rfl rfl)
theorem dX1_gcd_21 : decode cX1_gcd 21 = .ok (.lneg, 1) := dk_117 (dk_at dksX1_gcd_0 21 rfl rfl)
theorem dX1_gcd_22 : decode cX1_gcd 22 = .ok (.goto 4, 3) := dk_167 0 4 (dk_at dksX1_gcd_1 0 rfl rfl)
theorem dX1_gcd_25 : decode cX1_gcd 25 = .ok (.lload_n 2, 1) := dk_32 (dk_at dksX1_gcd_1 3 rfl rfl)
theorem dX1_gcd_26 : decode cX1_gcd 26 = .ok (.lstore 6, 2) := dk_55 6 (dk_at dksX1_gcd_1 4 rfl rfl)
theorem dX1_gcd_28 : decode cX1_gcd 28 = .ok (.lload 6, 2) := dk_22 6 (dk_at dksX1_gcd_1 6 rfl rfl)
theorem dX1_gcd_30 : decode cX1_gcd 30 = .ok (.lconst 0, 1) := dk_9 (dk_at dksX1_gcd_1 8 rfl rfl)
theorem dX1_gcd_31 : decode cX1_gcd 31 = .ok (.lcmp, 1) := dk_148 (dk_at dksX1_gcd_1 9 rfl rfl)
theorem dX1_gcd_32 : decode cX1_gcd 32 = .ok (.ifCond .eq 21, 3) := dk_153 0 21 (dk_at dksX1_gcd_1 10 rfl rfl)
theorem dX1_gcd_35 : decode cX1_gcd 35 = .ok (.lload 4, 2) := dk_22 4 (dk_at dksX1_gcd_1 13 rfl rfl)
theorem dX1_gcd_37 : decode cX1_gcd 37 = .ok (.lload 6, 2) := dk_22 6 (dk_at dksX1_gcd_1 15 rfl rfl)
theorem dX1_gcd_39 : decode cX1_gcd 39 = .ok (.lrem, 1) := dk_113 (dk_at dksX1_gcd_1 17 rfl rfl)
theorem dX1_gcd_40 : decode cX1_gcd 40 = .ok (.lstore 8, 2) := dk_55 8 (dk_at dksX1_gcd_1 18 rfl rfl)
theorem dX1_gcd_42 : decode cX1_gcd 42 = .ok (.lload 6, 2) := dk_22 6 (dk_at dksX1_gcd_1 20 rfl rfl)
theorem dX1_gcd_44 : decode cX1_gcd 44 = .ok (.lstore 4, 2) := dk_55 4 (dk_at dksX1_gcd_1 22 rfl rfl)
theorem dX1_gcd_46 : decode cX1_gcd 46 = .ok (.lload 8, 2) := dk_22 8 (dk_at dksX1_gcd_2 0 rfl rfl)
theorem dX1_gcd_48 : decode cX1_gcd 48 = .ok (.lstore 6, 2) := dk_55 6 (dk_at dksX1_gcd_2 2 rfl rfl)
theorem dX1_gcd_50 : decode cX1_gcd 50 = .ok (.goto (-22), 3) := dk_167 255 234 (dk_at dksX1_gcd_2 4 rfl rfl)
theorem dX1_gcd_53 : decode cX1_gcd 53 = .ok (.lload 4, 2) := dk_22 4 (dk_at dksX1_gcd_2 7 rfl rfl)
theorem dX1_gcd_55 : decode cX1_gcd 55 = .ok (.lreturn, 1) := dk_173 (dk_at dksX1_gcd_2 9 rfl rfl)
abbrev cX1_lays : ByteArray := prog_14_method_27_code
def yX1_lays : MethodName := ⟨RX1, "lays", "(I)V"⟩
def dkwX1_lays_2 : List UInt8 := [112, 182, 0, 77, 133, 167, 0, 4, 9, 80, 132, 2, 1, 167, 255, 199, 177]
abbrev dktX1_lays_2 : List UInt8 := dkwX1_lays_2 ++ []
def dkwX1_lays_1 : List UInt8 := [162, 0, 32, 28, 16, 6, 112, 42, 27, 182, 0, 74, 162, 0, 20, 42, 27, 28, 16, 6, 108, 28, 16, 6]
abbrev dktX1_lays_1 : List UInt8 := dkwX1_lays_1 ++ dktX1_lays_2
def dkwX1_lays_0 : List UInt8 := [3, 61, 28, 16, 36, 162, 0, 57, 42, 180, 0, 29, 28, 28, 16, 6, 108, 42, 27, 182, 0, 96]
abbrev dktX1_lays_0 : List UInt8 := dkwX1_lays_0 ++ dktX1_lays_1
theorem dksX1_lays_0 : cX1_lays.data.toList.drop 0 = dktX1_lays_0 := by decide +kernel
theorem dksX1_lays_1 : cX1_lays.data.toList.drop 22 = dktX1_lays_1 := dk_seg dksX1_lays_0 22 rfl rfl
theorem dksX1_lays_2 : cX1_lays.data.toList.drop 46 = dktX1_lays_2 := dk_seg dksX1_lays_1 24 rfl rfl
theorem dX1_lays_0 : decode cX1_lays 0 = .ok (.iconst 0, 1) := dk_3 (dk_at dksX1_lays_0 0 rfl rfl)
theorem dX1_lays_1 : decode cX1_lays 1 = .ok (.istore_n 2, 1) := dk_61 (dk_at dksX1_lays_0 1 rfl rfl)
theorem dX1_lays_2 : decode cX1_lays 2 = .ok (.iload_n 2, 1) := dk_28 (dk_at dksX1_lays_0 2 rfl rfl)
theorem dX1_lays_3 : decode cX1_lays 3 = .ok (.bipush 36, 2) := dk_16 36 (dk_at dksX1_lays_0 3 rfl rfl)
theorem dX1_lays_5 : decode cX1_lays 5 = .ok (.if_icmp .ge 57, 3) := dk_162 0 57 (dk_at dksX1_lays_0 5 rfl rfl)
theorem dX1_lays_8 : decode cX1_lays 8 = .ok (.aload_n 0, 1) := dk_42 (dk_at dksX1_lays_0 8 rfl rfl)
theorem dX1_lays_9 : decode cX1_lays 9 = .ok (.getfield 29, 3) := dk_180 0 29 (dk_at dksX1_lays_0 9 rfl rfl)
theorem dX1_lays_12 : decode cX1_lays 12 = .ok (.iload_n 2, 1) := dk_28 (dk_at dksX1_lays_0 12 rfl rfl)
theorem dX1_lays_13 : decode cX1_lays 13 = .ok (.iload_n 2, 1) := dk_28 (dk_at dksX1_lays_0 13 rfl rfl)
theorem dX1_lays_14 : decode cX1_lays 14 = .ok (.bipush 6, 2) := dk_16 6 (dk_at dksX1_lays_0 14 rfl rfl)
theorem dX1_lays_16 : decode cX1_lays 16 = .ok (.idiv, 1) := dk_108 (dk_at dksX1_lays_0 16 rfl rfl)
theorem dX1_lays_17 : decode cX1_lays 17 = .ok (.aload_n 0, 1) := dk_42 (dk_at dksX1_lays_0 17 rfl rfl)
theorem dX1_lays_18 : decode cX1_lays 18 = .ok (.iload_n 1, 1) := dk_27 (dk_at dksX1_lays_0 18 rfl rfl)
theorem dX1_lays_19 : decode cX1_lays 19 = .ok (.invokevirtual 96, 3) := dk_182 0 96 (dk_at dksX1_lays_0 19 rfl rfl)
theorem dX1_lays_22 : decode cX1_lays 22 = .ok (.if_icmp .ge 32, 3) := dk_162 0 32 (dk_at dksX1_lays_1 0 rfl rfl)
theorem dX1_lays_25 : decode cX1_lays 25 = .ok (.iload_n 2, 1) := dk_28 (dk_at dksX1_lays_1 3 rfl rfl)
theorem dX1_lays_26 : decode cX1_lays 26 = .ok (.bipush 6, 2) := dk_16 6 (dk_at dksX1_lays_1 4 rfl rfl)
theorem dX1_lays_28 : decode cX1_lays 28 = .ok (.irem, 1) := dk_112 (dk_at dksX1_lays_1 6 rfl rfl)
theorem dX1_lays_29 : decode cX1_lays 29 = .ok (.aload_n 0, 1) := dk_42 (dk_at dksX1_lays_1 7 rfl rfl)
theorem dX1_lays_30 : decode cX1_lays 30 = .ok (.iload_n 1, 1) := dk_27 (dk_at dksX1_lays_1 8 rfl rfl)
theorem dX1_lays_31 : decode cX1_lays 31 = .ok (.invokevirtual 74, 3) := dk_182 0 74 (dk_at dksX1_lays_1 9 rfl rfl)
theorem dX1_lays_34 : decode cX1_lays 34 = .ok (.if_icmp .ge 20, 3) := dk_162 0 20 (dk_at dksX1_lays_1 12 rfl rfl)
theorem dX1_lays_37 : decode cX1_lays 37 = .ok (.aload_n 0, 1) := dk_42 (dk_at dksX1_lays_1 15 rfl rfl)
theorem dX1_lays_38 : decode cX1_lays 38 = .ok (.iload_n 1, 1) := dk_27 (dk_at dksX1_lays_1 16 rfl rfl)
theorem dX1_lays_39 : decode cX1_lays 39 = .ok (.iload_n 2, 1) := dk_28 (dk_at dksX1_lays_1 17 rfl rfl)
theorem dX1_lays_40 : decode cX1_lays 40 = .ok (.bipush 6, 2) := dk_16 6 (dk_at dksX1_lays_1 18 rfl rfl)
theorem dX1_lays_42 : decode cX1_lays 42 = .ok (.idiv, 1) := dk_108 (dk_at dksX1_lays_1 20 rfl rfl)
theorem dX1_lays_43 : decode cX1_lays 43 = .ok (.iload_n 2, 1) := dk_28 (dk_at dksX1_lays_1 21 rfl rfl)
theorem dX1_lays_44 : decode cX1_lays 44 = .ok (.bipush 6, 2) := dk_16 6 (dk_at dksX1_lays_1 22 rfl rfl)
theorem dX1_lays_46 : decode cX1_lays 46 = .ok (.irem, 1) := dk_112 (dk_at dksX1_lays_2 0 rfl rfl)
theorem dX1_lays_47 : decode cX1_lays 47 = .ok (.invokevirtual 77, 3) := dk_182 0 77 (dk_at dksX1_lays_2 1 rfl rfl)
theorem dX1_lays_50 : decode cX1_lays 50 = .ok (.i2l, 1) := dk_133 (dk_at dksX1_lays_2 4 rfl rfl)
theorem dX1_lays_51 : decode cX1_lays 51 = .ok (.goto 4, 3) := dk_167 0 4 (dk_at dksX1_lays_2 5 rfl rfl)
theorem dX1_lays_54 : decode cX1_lays 54 = .ok (.lconst 0, 1) := dk_9 (dk_at dksX1_lays_2 8 rfl rfl)
theorem dX1_lays_55 : decode cX1_lays 55 = .ok (.lastore, 1) := dk_80 (dk_at dksX1_lays_2 9 rfl rfl)
theorem dX1_lays_56 : decode cX1_lays 56 = .ok (.iinc 2 1, 3) := dk_132 2 1 (dk_at dksX1_lays_2 10 rfl rfl)
theorem dX1_lays_59 : decode cX1_lays 59 = .ok (.goto (-57), 3) := dk_167 255 199 (dk_at dksX1_lays_2 13 rfl rfl)
theorem dX1_lays_62 : decode cX1_lays 62 = .ok (.return_, 1) := dk_177 (dk_at dksX1_lays_2 16 rfl rfl)
abbrev cX1_rankBy : ByteArray := prog_14_method_25_code
def yX1_rankBy : MethodName := ⟨RX1, "rankBy", "(III)I"⟩
def dkwX1_rankBy_5 : List UInt8 := [172]
abbrev dktX1_rankBy_5 : List UInt8 := dkwX1_rankBy_5 ++ []
def dkwX1_rankBy_4 : List UInt8 := [182, 0, 84, 42, 21, 4, 21, 5, 27, 29, 182, 0, 88, 132, 4, 1, 132, 5, 1, 167, 255, 186, 21, 4]
abbrev dktX1_rankBy_4 : List UInt8 := dkwX1_rankBy_4 ++ dktX1_rankBy_5
def dkwX1_rankBy_3 : List UInt8 := [96, 47, 9, 148, 154, 0, 9, 132, 6, 1, 167, 255, 229, 21, 6, 27, 162, 0, 24, 42, 21, 6, 21, 4]
abbrev dktX1_rankBy_3 : List UInt8 := dkwX1_rankBy_3 ++ dktX1_rankBy_4
def dkwX1_rankBy_2 : List UInt8 := [162, 0, 70, 21, 4, 54, 6, 21, 6, 27, 162, 0, 27, 42, 180, 0, 29, 16, 6, 21, 6, 104, 21, 5]
abbrev dktX1_rankBy_2 : List UInt8 := dkwX1_rankBy_2 ++ dktX1_rankBy_3
def dkwX1_rankBy_1 : List UInt8 := [133, 113, 29, 133, 97, 29, 133, 113, 80, 132, 4, 1, 167, 255, 223, 3, 54, 4, 3, 54, 5, 21, 5, 28]
abbrev dktX1_rankBy_1 : List UInt8 := dkwX1_rankBy_1 ++ dktX1_rankBy_2
def dkwX1_rankBy_0 : List UInt8 := [3, 54, 4, 21, 4, 16, 36, 162, 0, 32, 42, 180, 0, 29, 21, 4, 42, 180, 0, 29, 21, 4, 47, 29]
abbrev dktX1_rankBy_0 : List UInt8 := dkwX1_rankBy_0 ++ dktX1_rankBy_1
theorem dksX1_rankBy_0 : cX1_rankBy.data.toList.drop 0 = dktX1_rankBy_0 := by decide +kernel
theorem dksX1_rankBy_1 : cX1_rankBy.data.toList.drop 24 = dktX1_rankBy_1 := dk_seg dksX1_rankBy_0 24 rfl rfl
theorem dksX1_rankBy_2 : cX1_rankBy.data.toList.drop 48 = dktX1_rankBy_2 := dk_seg dksX1_rankBy_1 24 rfl rfl
theorem dksX1_rankBy_3 : cX1_rankBy.data.toList.drop 72 = dktX1_rankBy_3 := dk_seg dksX1_rankBy_2 24 rfl rfl
theorem dksX1_rankBy_4 : cX1_rankBy.data.toList.drop 96 = dktX1_rankBy_4 := dk_seg dksX1_rankBy_3 24 rfl rfl
theorem dksX1_rankBy_5 : cX1_rankBy.data.toList.drop 120 = dktX1_rankBy_5 := dk_seg dksX1_rankBy_4 24 rfl rfl
theorem dX1_rankBy_0 : decode cX1_rankBy 0 = .ok (.iconst 0, 1) := dk_3 (dk_at dksX1_rankBy_0 0 rfl rfl)
theorem dX1_rankBy_1 : decode cX1_rankBy 1 = .ok (.istore 4, 2) := dk_54 4 (dk_at dksX1_rankBy_0 1 rfl rfl)
theorem dX1_rankBy_3 : decode cX1_rankBy 3 = .ok (.iload 4, 2) := dk_21 4 (dk_at dksX1_rankBy_0 3 rfl rfl)
theorem dX1_rankBy_5 : decode cX1_rankBy 5 = .ok (.bipush 36, 2) := dk_16 36 (dk_at dksX1_rankBy_0 5 rfl rfl)
theorem dX1_rankBy_7 : decode cX1_rankBy 7 = .ok (.if_icmp .ge 32, 3) := dk_162 0 32 (dk_at dksX1_rankBy_0 7 rfl rfl)
theorem dX1_rankBy_10 : decode cX1_rankBy 10 = .ok (.aload_n 0, 1) := dk_42 (dk_at dksX1_rankBy_0 10 rfl rfl)
theorem dX1_rankBy_11 : decode cX1_rankBy 11 = .ok (.getfield 29, 3) := dk_180 0 29 (dk_at dksX1_rankBy_0 11 rfl rfl)
theorem dX1_rankBy_14 : decode cX1_rankBy 14 = .ok (.iload 4, 2) := dk_21 4 (dk_at dksX1_rankBy_0 14 rfl rfl)
theorem dX1_rankBy_16 : decode cX1_rankBy 16 = .ok (.aload_n 0, 1) := dk_42 (dk_at dksX1_rankBy_0 16 rfl rfl)
theorem dX1_rankBy_17 : decode cX1_rankBy 17 = .ok (.getfield 29, 3) := dk_180 0 29 (dk_at dksX1_rankBy_0 17 rfl rfl)
theorem dX1_rankBy_20 : decode cX1_rankBy 20 = .ok (.iload 4, 2) := dk_21 4 (dk_at dksX1_rankBy_0 20 rfl rfl)
theorem dX1_rankBy_22 : decode cX1_rankBy 22 = .ok (.laload, 1) := dk_47 (dk_at dksX1_rankBy_0 22 rfl rfl)
theorem dX1_rankBy_23 : decode cX1_rankBy 23 = .ok (.iload_n 3, 1) := dk_29 (dk_at dksX1_rankBy_0 23 rfl rfl)
theorem dX1_rankBy_24 : decode cX1_rankBy 24 = .ok (.i2l, 1) := dk_133 (dk_at dksX1_rankBy_1 0 rfl rfl)
theorem dX1_rankBy_25 : decode cX1_rankBy 25 = .ok (.lrem, 1) := dk_113 (dk_at dksX1_rankBy_1 1 rfl rfl)
theorem dX1_rankBy_26 : decode cX1_rankBy 26 = .ok (.iload_n 3, 1) := dk_29 (dk_at dksX1_rankBy_1 2 rfl rfl)
theorem dX1_rankBy_27 : decode cX1_rankBy 27 = .ok (.i2l, 1) := dk_133 (dk_at dksX1_rankBy_1 3 rfl rfl)
theorem dX1_rankBy_28 : decode cX1_rankBy 28 = .ok (.ladd, 1) := dk_97 (dk_at dksX1_rankBy_1 4 rfl rfl)
theorem dX1_rankBy_29 : decode cX1_rankBy 29 = .ok (.iload_n 3, 1) := dk_29 (dk_at dksX1_rankBy_1 5 rfl rfl)
theorem dX1_rankBy_30 : decode cX1_rankBy 30 = .ok (.i2l, 1) := dk_133 (dk_at dksX1_rankBy_1 6 rfl rfl)
theorem dX1_rankBy_31 : decode cX1_rankBy 31 = .ok (.lrem, 1) := dk_113 (dk_at dksX1_rankBy_1 7 rfl rfl)
theorem dX1_rankBy_32 : decode cX1_rankBy 32 = .ok (.lastore, 1) := dk_80 (dk_at dksX1_rankBy_1 8 rfl rfl)
theorem dX1_rankBy_33 : decode cX1_rankBy 33 = .ok (.iinc 4 1, 3) := dk_132 4 1 (dk_at dksX1_rankBy_1 9 rfl rfl)
theorem dX1_rankBy_36 : decode cX1_rankBy 36 = .ok (.goto (-33), 3) := dk_167 255 223 (dk_at dksX1_rankBy_1 12 rfl rfl)
theorem dX1_rankBy_39 : decode cX1_rankBy 39 = .ok (.iconst 0, 1) := dk_3 (dk_at dksX1_rankBy_1 15 rfl rfl)
theorem dX1_rankBy_40 : decode cX1_rankBy 40 = .ok (.istore 4, 2) := dk_54 4 (dk_at dksX1_rankBy_1 16 rfl rfl)
theorem dX1_rankBy_42 : decode cX1_rankBy 42 = .ok (.iconst 0, 1) := dk_3 (dk_at dksX1_rankBy_1 18 rfl rfl)
theorem dX1_rankBy_43 : decode cX1_rankBy 43 = .ok (.istore 5, 2) := dk_54 5 (dk_at dksX1_rankBy_1 19 rfl rfl)
theorem dX1_rankBy_45 : decode cX1_rankBy 45 = .ok (.iload 5, 2) := dk_21 5 (dk_at dksX1_rankBy_1 21 rfl rfl)
theorem dX1_rankBy_47 : decode cX1_rankBy 47 = .ok (.iload_n 2, 1) := dk_28 (dk_at dksX1_rankBy_1 23 rfl rfl)
theorem dX1_rankBy_48 : decode cX1_rankBy 48 = .ok (.if_icmp .ge 70, 3) := dk_162 0 70 (dk_at dksX1_rankBy_2 0 rfl rfl)
theorem dX1_rankBy_51 : decode cX1_rankBy 51 = .ok (.iload 4, 2) := dk_21 4 (dk_at dksX1_rankBy_2 3 rfl rfl)
theorem dX1_rankBy_53 : decode cX1_rankBy 53 = .ok (.istore 6, 2) := dk_54 6 (dk_at dksX1_rankBy_2 5 rfl rfl)
theorem dX1_rankBy_55 : decode cX1_rankBy 55 = .ok (.iload 6, 2) := dk_21 6 (dk_at dksX1_rankBy_2 7 rfl rfl)
theorem dX1_rankBy_57 : decode cX1_rankBy 57 = .ok (.iload_n 1, 1) := dk_27 (dk_at dksX1_rankBy_2 9 rfl rfl)
theorem dX1_rankBy_58 : decode cX1_rankBy 58 = .ok (.if_icmp .ge 27, 3) := dk_162 0 27 (dk_at dksX1_rankBy_2 10 rfl rfl)
theorem dX1_rankBy_61 : decode cX1_rankBy 61 = .ok (.aload_n 0, 1) := dk_42 (dk_at dksX1_rankBy_2 13 rfl rfl)
theorem dX1_rankBy_62 : decode cX1_rankBy 62 = .ok (.getfield 29, 3) := dk_180 0 29 (dk_at dksX1_rankBy_2 14 rfl rfl)
theorem dX1_rankBy_65 : decode cX1_rankBy 65 = .ok (.bipush 6, 2) := dk_16 6 (dk_at dksX1_rankBy_2 17 rfl rfl)
theorem dX1_rankBy_67 : decode cX1_rankBy 67 = .ok (.iload 6, 2) := dk_21 6 (dk_at dksX1_rankBy_2 19 rfl rfl)
theorem dX1_rankBy_69 : decode cX1_rankBy 69 = .ok (.imul, 1) := dk_104 (dk_at dksX1_rankBy_2 21 rfl rfl)
theorem dX1_rankBy_70 : decode cX1_rankBy 70 = .ok (.iload 5, 2) := dk_21 5 (dk_at dksX1_rankBy_2 22 rfl rfl)
theorem dX1_rankBy_72 : decode cX1_rankBy 72 = .ok (.iadd, 1) := dk_96 (dk_at dksX1_rankBy_3 0 rfl rfl)
theorem dX1_rankBy_73 : decode cX1_rankBy 73 = .ok (.laload, 1) := dk_47 (dk_at dksX1_rankBy_3 1 rfl rfl)
theorem dX1_rankBy_74 : decode cX1_rankBy 74 = .ok (.lconst 0, 1) := dk_9 (dk_at dksX1_rankBy_3 2 rfl rfl)
theorem dX1_rankBy_75 : decode cX1_rankBy 75 = .ok (.lcmp, 1) := dk_148 (dk_at dksX1_rankBy_3 3 rfl rfl)
theorem dX1_rankBy_76 : decode cX1_rankBy 76 = .ok (.ifCond .ne 9, 3) := dk_154 0 9 (dk_at dksX1_rankBy_3 4 rfl rfl)
theorem dX1_rankBy_79 : decode cX1_rankBy 79 = .ok (.iinc 6 1, 3) := dk_132 6 1 (dk_at dksX1_rankBy_3 7 rfl rfl)
theorem dX1_rankBy_82 : decode cX1_rankBy 82 = .ok (.goto (-27), 3) := dk_167 255 229 (dk_at dksX1_rankBy_3 10 rfl rfl)
theorem dX1_rankBy_85 : decode cX1_rankBy 85 = .ok (.iload 6, 2) := dk_21 6 (dk_at dksX1_rankBy_3 13 rfl rfl)
theorem dX1_rankBy_87 : decode cX1_rankBy 87 = .ok (.iload_n 1, 1) := dk_27 (dk_at dksX1_rankBy_3 15 rfl rfl)
theorem dX1_rankBy_88 : decode cX1_rankBy 88 = .ok (.if_icmp .ge 24, 3) := dk_162 0 24 (dk_at dksX1_rankBy_3 16 rfl rfl)
theorem dX1_rankBy_91 : decode cX1_rankBy 91 = .ok (.aload_n 0, 1) := dk_42 (dk_at dksX1_rankBy_3 19 rfl rfl)
theorem dX1_rankBy_92 : decode cX1_rankBy 92 = .ok (.iload 6, 2) := dk_21 6 (dk_at dksX1_rankBy_3 20 rfl rfl)
theorem dX1_rankBy_94 : decode cX1_rankBy 94 = .ok (.iload 4, 2) := dk_21 4 (dk_at dksX1_rankBy_3 22 rfl rfl)
theorem dX1_rankBy_96 : decode cX1_rankBy 96 = .ok (.invokevirtual 84, 3) := dk_182 0 84 (dk_at dksX1_rankBy_4 0 rfl rfl)
theorem dX1_rankBy_99 : decode cX1_rankBy 99 = .ok (.aload_n 0, 1) := dk_42 (dk_at dksX1_rankBy_4 3 rfl rfl)
theorem dX1_rankBy_100 : decode cX1_rankBy 100 = .ok (.iload 4, 2) := dk_21 4 (dk_at dksX1_rankBy_4 4 rfl rfl)
theorem dX1_rankBy_102 : decode cX1_rankBy 102 = .ok (.iload 5, 2) := dk_21 5 (dk_at dksX1_rankBy_4 6 rfl rfl)
theorem dX1_rankBy_104 : decode cX1_rankBy 104 = .ok (.iload_n 1, 1) := dk_27 (dk_at dksX1_rankBy_4 8 rfl rfl)
theorem dX1_rankBy_105 : decode cX1_rankBy 105 = .ok (.iload_n 3, 1) := dk_29 (dk_at dksX1_rankBy_4 9 rfl rfl)
theorem dX1_rankBy_106 : decode cX1_rankBy 106 = .ok (.invokevirtual 88, 3) := dk_182 0 88 (dk_at dksX1_rankBy_4 10 rfl rfl)
theorem dX1_rankBy_109 : decode cX1_rankBy 109 = .ok (.iinc 4 1, 3) := dk_132 4 1 (dk_at dksX1_rankBy_4 13 rfl rfl)
theorem dX1_rankBy_112 : decode cX1_rankBy 112 = .ok (.iinc 5 1, 3) := dk_132 5 1 (dk_at dksX1_rankBy_4 16 rfl rfl)
theorem dX1_rankBy_115 : decode cX1_rankBy 115 = .ok (.goto (-70), 3) := dk_167 255 186 (dk_at dksX1_rankBy_4 19 rfl rfl)
theorem dX1_rankBy_118 : decode cX1_rankBy 118 = .ok (.iload 4, 2) := dk_21 4 (dk_at dksX1_rankBy_4 22 rfl rfl)
theorem dX1_rankBy_120 : decode cX1_rankBy 120 = .ok (.ireturn, 1) := dk_172 (dk_at dksX1_rankBy_5 0 rfl rfl)
abbrev cX1_clears : ByteArray := prog_14_method_26_code
def yX1_clears : MethodName := ⟨RX1, "clears", "(IIII)V"⟩
def dkwX1_clears_5 : List UInt8 := [167, 255, 192, 132, 7, 1, 167, 255, 156, 177]
abbrev dktX1_clears_5 : List UInt8 := dkwX1_clears_5 ++ []
def dkwX1_clears_4 : List UInt8 := [21, 10, 96, 47, 105, 101, 21, 4, 133, 113, 21, 4, 133, 97, 21, 4, 133, 113, 80, 132, 10, 1]
abbrev dktX1_clears_4 : List UInt8 := dkwX1_clears_4 ++ dktX1_clears_5
def dkwX1_clears_3 : List UInt8 := [96, 42, 180, 0, 29, 16, 6, 21, 7, 104, 21, 10, 96, 47, 22, 8, 42, 180, 0, 29, 16, 6, 27, 104]
abbrev dktX1_clears_3 : List UInt8 := dkwX1_clears_3 ++ dktX1_clears_4
def dkwX1_clears_2 : List UInt8 := [113, 55, 8, 3, 54, 10, 21, 10, 16, 6, 162, 0, 63, 42, 180, 0, 29, 16, 6, 21, 7, 104, 21, 10]
abbrev dktX1_clears_2 : List UInt8 := dkwX1_clears_2 ++ dktX1_clears_3
def dkwX1_clears_1 : List UInt8 := [21, 7, 29, 162, 0, 100, 42, 180, 0, 29, 16, 6, 21, 7, 104, 28, 96, 47, 22, 5, 105, 21, 4, 133]
abbrev dktX1_clears_1 : List UInt8 := dkwX1_clears_1 ++ dktX1_clears_2
def dkwX1_clears_0 : List UInt8 := [42, 180, 0, 29, 16, 6, 27, 104, 28, 96, 47, 21, 4, 184, 0, 92, 55, 5, 27, 4, 96, 54, 7]
abbrev dktX1_clears_0 : List UInt8 := dkwX1_clears_0 ++ dktX1_clears_1
theorem dksX1_clears_0 : cX1_clears.data.toList.drop 0 = dktX1_clears_0 := by decide +kernel
theorem dksX1_clears_1 : cX1_clears.data.toList.drop 23 = dktX1_clears_1 := dk_seg dksX1_clears_0 23 rfl rfl
theorem dksX1_clears_2 : cX1_clears.data.toList.drop 47 = dktX1_clears_2 := dk_seg dksX1_clears_1 24 rfl rfl
theorem dksX1_clears_3 : cX1_clears.data.toList.drop 71 = dktX1_clears_3 := dk_seg dksX1_clears_2 24 rfl rfl
theorem dksX1_clears_4 : cX1_clears.data.toList.drop 95 = dktX1_clears_4 := dk_seg dksX1_clears_3 24 rfl rfl
theorem dksX1_clears_5 : cX1_clears.data.toList.drop 117 = dktX1_clears_5 := dk_seg dksX1_clears_4 22 rfl rfl
theorem dX1_clears_0 : decode cX1_clears 0 = .ok (.aload_n 0, 1) := dk_42 (dk_at dksX1_clears_0 0 rfl rfl)
theorem dX1_clears_1 : decode cX1_clears 1 = .ok (.getfield 29, 3) := dk_180 0 29 (dk_at dksX1_clears_0 1 rfl rfl)
theorem dX1_clears_4 : decode cX1_clears 4 = .ok (.bipush 6, 2) := dk_16 6 (dk_at dksX1_clears_0 4 rfl rfl)
theorem dX1_clears_6 : decode cX1_clears 6 = .ok (.iload_n 1, 1) := dk_27 (dk_at dksX1_clears_0 6 rfl rfl)
theorem dX1_clears_7 : decode cX1_clears 7 = .ok (.imul, 1) := dk_104 (dk_at dksX1_clears_0 7 rfl rfl)
theorem dX1_clears_8 : decode cX1_clears 8 = .ok (.iload_n 2, 1) := dk_28 (dk_at dksX1_clears_0 8 rfl rfl)
theorem dX1_clears_9 : decode cX1_clears 9 = .ok (.iadd, 1) := dk_96 (dk_at dksX1_clears_0 9 rfl rfl)
theorem dX1_clears_10 : decode cX1_clears 10 = .ok (.laload, 1) := dk_47 (dk_at dksX1_clears_0 10 rfl rfl)
theorem dX1_clears_11 : decode cX1_clears 11 = .ok (.iload 4, 2) := dk_21 4 (dk_at dksX1_clears_0 11 rfl rfl)
theorem dX1_clears_13 : decode cX1_clears 13 = .ok (.invokestatic 92, 3) := dk_184 0 92 (dk_at dksX1_clears_0 13 rfl rfl)
theorem dX1_clears_16 : decode cX1_clears 16 = .ok (.lstore 5, 2) := dk_55 5 (dk_at dksX1_clears_0 16 rfl rfl)
theorem dX1_clears_18 : decode cX1_clears 18 = .ok (.iload_n 1, 1) := dk_27 (dk_at dksX1_clears_0 18 rfl rfl)
theorem dX1_clears_19 : decode cX1_clears 19 = .ok (.iconst 1, 1) := dk_4 (dk_at dksX1_clears_0 19 rfl rfl)
theorem dX1_clears_20 : decode cX1_clears 20 = .ok (.iadd, 1) := dk_96 (dk_at dksX1_clears_0 20 rfl rfl)
theorem dX1_clears_21 : decode cX1_clears 21 = .ok (.istore 7, 2) := dk_54 7 (dk_at dksX1_clears_0 21 rfl rfl)
theorem dX1_clears_23 : decode cX1_clears 23 = .ok (.iload 7, 2) := dk_21 7 (dk_at dksX1_clears_1 0 rfl rfl)
theorem dX1_clears_25 : decode cX1_clears 25 = .ok (.iload_n 3, 1) := dk_29 (dk_at dksX1_clears_1 2 rfl rfl)
theorem dX1_clears_26 : decode cX1_clears 26 = .ok (.if_icmp .ge 100, 3) := dk_162 0 100 (dk_at dksX1_clears_1 3 rfl rfl)
theorem dX1_clears_29 : decode cX1_clears 29 = .ok (.aload_n 0, 1) := dk_42 (dk_at dksX1_clears_1 6 rfl rfl)
theorem dX1_clears_30 : decode cX1_clears 30 = .ok (.getfield 29, 3) := dk_180 0 29 (dk_at dksX1_clears_1 7 rfl rfl)
theorem dX1_clears_33 : decode cX1_clears 33 = .ok (.bipush 6, 2) := dk_16 6 (dk_at dksX1_clears_1 10 rfl rfl)
theorem dX1_clears_35 : decode cX1_clears 35 = .ok (.iload 7, 2) := dk_21 7 (dk_at dksX1_clears_1 12 rfl rfl)
theorem dX1_clears_37 : decode cX1_clears 37 = .ok (.imul, 1) := dk_104 (dk_at dksX1_clears_1 14 rfl rfl)
theorem dX1_clears_38 : decode cX1_clears 38 = .ok (.iload_n 2, 1) := dk_28 (dk_at dksX1_clears_1 15 rfl rfl)
theorem dX1_clears_39 : decode cX1_clears 39 = .ok (.iadd, 1) := dk_96 (dk_at dksX1_clears_1 16 rfl rfl)
theorem dX1_clears_40 : decode cX1_clears 40 = .ok (.laload, 1) := dk_47 (dk_at dksX1_clears_1 17 rfl rfl)
theorem dX1_clears_41 : decode cX1_clears 41 = .ok (.lload 5, 2) := dk_22 5 (dk_at dksX1_clears_1 18 rfl rfl)
theorem dX1_clears_43 : decode cX1_clears 43 = .ok (.lmul, 1) := dk_105 (dk_at dksX1_clears_1 20 rfl rfl)
theorem dX1_clears_44 : decode cX1_clears 44 = .ok (.iload 4, 2) := dk_21 4 (dk_at dksX1_clears_1 21 rfl rfl)
theorem dX1_clears_46 : decode cX1_clears 46 = .ok (.i2l, 1) := dk_133 (dk_at dksX1_clears_1 23 rfl rfl)
theorem dX1_clears_47 : decode cX1_clears 47 = .ok (.lrem, 1) := dk_113 (dk_at dksX1_clears_2 0 rfl rfl)
theorem dX1_clears_48 : decode cX1_clears 48 = .ok (.lstore 8, 2) := dk_55 8 (dk_at dksX1_clears_2 1 rfl rfl)
theorem dX1_clears_50 : decode cX1_clears 50 = .ok (.iconst 0, 1) := dk_3 (dk_at dksX1_clears_2 3 rfl rfl)
theorem dX1_clears_51 : decode cX1_clears 51 = .ok (.istore 10, 2) := dk_54 10 (dk_at dksX1_clears_2 4 rfl rfl)
theorem dX1_clears_53 : decode cX1_clears 53 = .ok (.iload 10, 2) := dk_21 10 (dk_at dksX1_clears_2 6 rfl rfl)
theorem dX1_clears_55 : decode cX1_clears 55 = .ok (.bipush 6, 2) := dk_16 6 (dk_at dksX1_clears_2 8 rfl rfl)
theorem dX1_clears_57 : decode cX1_clears 57 = .ok (.if_icmp .ge 63, 3) := dk_162 0 63 (dk_at dksX1_clears_2 10 rfl rfl)
theorem dX1_clears_60 : decode cX1_clears 60 = .ok (.aload_n 0, 1) := dk_42 (dk_at dksX1_clears_2 13 rfl rfl)
theorem dX1_clears_61 : decode cX1_clears 61 = .ok (.getfield 29, 3) := dk_180 0 29 (dk_at dksX1_clears_2 14 rfl rfl)
theorem dX1_clears_64 : decode cX1_clears 64 = .ok (.bipush 6, 2) := dk_16 6 (dk_at dksX1_clears_2 17 rfl rfl)
theorem dX1_clears_66 : decode cX1_clears 66 = .ok (.iload 7, 2) := dk_21 7 (dk_at dksX1_clears_2 19 rfl rfl)
theorem dX1_clears_68 : decode cX1_clears 68 = .ok (.imul, 1) := dk_104 (dk_at dksX1_clears_2 21 rfl rfl)
theorem dX1_clears_69 : decode cX1_clears 69 = .ok (.iload 10, 2) := dk_21 10 (dk_at dksX1_clears_2 22 rfl rfl)
theorem dX1_clears_71 : decode cX1_clears 71 = .ok (.iadd, 1) := dk_96 (dk_at dksX1_clears_3 0 rfl rfl)
theorem dX1_clears_72 : decode cX1_clears 72 = .ok (.aload_n 0, 1) := dk_42 (dk_at dksX1_clears_3 1 rfl rfl)
theorem dX1_clears_73 : decode cX1_clears 73 = .ok (.getfield 29, 3) := dk_180 0 29 (dk_at dksX1_clears_3 2 rfl rfl)
theorem dX1_clears_76 : decode cX1_clears 76 = .ok (.bipush 6, 2) := dk_16 6 (dk_at dksX1_clears_3 5 rfl rfl)
theorem dX1_clears_78 : decode cX1_clears 78 = .ok (.iload 7, 2) := dk_21 7 (dk_at dksX1_clears_3 7 rfl rfl)
theorem dX1_clears_80 : decode cX1_clears 80 = .ok (.imul, 1) := dk_104 (dk_at dksX1_clears_3 9 rfl rfl)
theorem dX1_clears_81 : decode cX1_clears 81 = .ok (.iload 10, 2) := dk_21 10 (dk_at dksX1_clears_3 10 rfl rfl)
theorem dX1_clears_83 : decode cX1_clears 83 = .ok (.iadd, 1) := dk_96 (dk_at dksX1_clears_3 12 rfl rfl)
theorem dX1_clears_84 : decode cX1_clears 84 = .ok (.laload, 1) := dk_47 (dk_at dksX1_clears_3 13 rfl rfl)
theorem dX1_clears_85 : decode cX1_clears 85 = .ok (.lload 8, 2) := dk_22 8 (dk_at dksX1_clears_3 14 rfl rfl)
theorem dX1_clears_87 : decode cX1_clears 87 = .ok (.aload_n 0, 1) := dk_42 (dk_at dksX1_clears_3 16 rfl rfl)
theorem dX1_clears_88 : decode cX1_clears 88 = .ok (.getfield 29, 3) := dk_180 0 29 (dk_at dksX1_clears_3 17 rfl rfl)
theorem dX1_clears_91 : decode cX1_clears 91 = .ok (.bipush 6, 2) := dk_16 6 (dk_at dksX1_clears_3 20 rfl rfl)
theorem dX1_clears_93 : decode cX1_clears 93 = .ok (.iload_n 1, 1) := dk_27 (dk_at dksX1_clears_3 22 rfl rfl)
theorem dX1_clears_94 : decode cX1_clears 94 = .ok (.imul, 1) := dk_104 (dk_at dksX1_clears_3 23 rfl rfl)
theorem dX1_clears_95 : decode cX1_clears 95 = .ok (.iload 10, 2) := dk_21 10 (dk_at dksX1_clears_4 0 rfl rfl)
theorem dX1_clears_97 : decode cX1_clears 97 = .ok (.iadd, 1) := dk_96 (dk_at dksX1_clears_4 2 rfl rfl)
theorem dX1_clears_98 : decode cX1_clears 98 = .ok (.laload, 1) := dk_47 (dk_at dksX1_clears_4 3 rfl rfl)
theorem dX1_clears_99 : decode cX1_clears 99 = .ok (.lmul, 1) := dk_105 (dk_at dksX1_clears_4 4 rfl rfl)
theorem dX1_clears_100 : decode cX1_clears 100 = .ok (.lsub, 1) := dk_101 (dk_at dksX1_clears_4 5 rfl rfl)
theorem dX1_clears_101 : decode cX1_clears 101 = .ok (.iload 4, 2) := dk_21 4 (dk_at dksX1_clears_4 6 rfl rfl)
theorem dX1_clears_103 : decode cX1_clears 103 = .ok (.i2l, 1) := dk_133 (dk_at dksX1_clears_4 8 rfl rfl)
theorem dX1_clears_104 : decode cX1_clears 104 = .ok (.lrem, 1) := dk_113 (dk_at dksX1_clears_4 9 rfl rfl)
theorem dX1_clears_105 : decode cX1_clears 105 = .ok (.iload 4, 2) := dk_21 4 (dk_at dksX1_clears_4 10 rfl rfl)
theorem dX1_clears_107 : decode cX1_clears 107 = .ok (.i2l, 1) := dk_133 (dk_at dksX1_clears_4 12 rfl rfl)
theorem dX1_clears_108 : decode cX1_clears 108 = .ok (.ladd, 1) := dk_97 (dk_at dksX1_clears_4 13 rfl rfl)
theorem dX1_clears_109 : decode cX1_clears 109 = .ok (.iload 4, 2) := dk_21 4 (dk_at dksX1_clears_4 14 rfl rfl)
theorem dX1_clears_111 : decode cX1_clears 111 = .ok (.i2l, 1) := dk_133 (dk_at dksX1_clears_4 16 rfl rfl)
theorem dX1_clears_112 : decode cX1_clears 112 = .ok (.lrem, 1) := dk_113 (dk_at dksX1_clears_4 17 rfl rfl)
theorem dX1_clears_113 : decode cX1_clears 113 = .ok (.lastore, 1) := dk_80 (dk_at dksX1_clears_4 18 rfl rfl)
theorem dX1_clears_114 : decode cX1_clears 114 = .ok (.iinc 10 1, 3) := dk_132 10 1 (dk_at dksX1_clears_4 19 rfl rfl)
theorem dX1_clears_117 : decode cX1_clears 117 = .ok (.goto (-64), 3) := dk_167 255 192 (dk_at dksX1_clears_5 0 rfl rfl)
theorem dX1_clears_120 : decode cX1_clears 120 = .ok (.iinc 7 1, 3) := dk_132 7 1 (dk_at dksX1_clears_5 3 rfl rfl)
theorem dX1_clears_123 : decode cX1_clears 123 = .ok (.goto (-100), 3) := dk_167 255 156 (dk_at dksX1_clears_5 6 rfl rfl)
theorem dX1_clears_126 : decode cX1_clears 126 = .ok (.return_, 1) := dk_177 (dk_at dksX1_clears_5 9 rfl rfl)
abbrev cX1_inverse : ByteArray := prog_14_method_24_code
def yX1_inverse : MethodName := ⟨RX1, "inverse", "(JI)J"⟩
def dkwX1_inverse_0 : List UInt8 := [10, 66, 33, 30, 105, 28, 133, 113, 10, 148, 153, 0, 10, 33, 10, 97, 66, 167, 255, 241, 33, 173]
abbrev dktX1_inverse_0 : List UInt8 := dkwX1_inverse_0 ++ []
theorem dksX1_inverse_0 : cX1_inverse.data.toList.drop 0 = dktX1_inverse_0 := by decide +kernel
theorem dX1_inverse_0 : decode cX1_inverse 0 = .ok (.lconst 1, 1) := dk_10 (dk_at dksX1_inverse_0 0 rfl rfl)
theorem dX1_inverse_1 : decode cX1_inverse 1 = .ok (.lstore_n 3, 1) := dk_66 (dk_at dksX1_inverse_0 1 rfl rfl)
theorem dX1_inverse_2 : decode cX1_inverse 2 = .ok (.lload_n 3, 1) := dk_33 (dk_at dksX1_inverse_0 2 rfl rfl)
theorem dX1_inverse_3 : decode cX1_inverse 3 = .ok (.lload_n 0, 1) := dk_30 (dk_at dksX1_inverse_0 3 rfl rfl)
theorem dX1_inverse_4 : decode cX1_inverse 4 = .ok (.lmul, 1) := dk_105 (dk_at dksX1_inverse_0 4 rfl rfl)
theorem dX1_inverse_5 : decode cX1_inverse 5 = .ok (.iload_n 2, 1) := dk_28 (dk_at dksX1_inverse_0 5 rfl rfl)
theorem dX1_inverse_6 : decode cX1_inverse 6 = .ok (.i2l, 1) := dk_133 (dk_at dksX1_inverse_0 6 rfl rfl)
theorem dX1_inverse_7 : decode cX1_inverse 7 = .ok (.lrem, 1) := dk_113 (dk_at dksX1_inverse_0 7 rfl rfl)
theorem dX1_inverse_8 : decode cX1_inverse 8 = .ok (.lconst 1, 1) := dk_10 (dk_at dksX1_inverse_0 8 rfl rfl)
theorem dX1_inverse_9 : decode cX1_inverse 9 = .ok (.lcmp, 1) := dk_148 (dk_at dksX1_inverse_0 9 rfl rfl)
theorem dX1_inverse_10 : decode cX1_inverse 10 = .ok (.ifCond .eq 10, 3) := dk_153 0 10 (dk_at dksX1_inverse_0 10 rfl rfl)
theorem dX1_inverse_13 : decode cX1_inverse 13 = .ok (.lload_n 3, 1) := dk_33 (dk_at dksX1_inverse_0 13 rfl rfl)
theorem dX1_inverse_14 : decode cX1_inverse 14 = .ok (.lconst 1, 1) := dk_10 (dk_at dksX1_inverse_0 14 rfl rfl)
theorem dX1_inverse_15 : decode cX1_inverse 15 = .ok (.ladd, 1) := dk_97 (dk_at dksX1_inverse_0 15 rfl rfl)
theorem dX1_inverse_16 : decode cX1_inverse 16 = .ok (.lstore_n 3, 1) := dk_66 (dk_at dksX1_inverse_0 16 rfl rfl)
theorem dX1_inverse_17 : decode cX1_inverse 17 = .ok (.goto (-15), 3) := dk_167 255 241 (dk_at dksX1_inverse_0 17 rfl rfl)
theorem dX1_inverse_20 : decode cX1_inverse 20 = .ok (.lload_n 3, 1) := dk_33 (dk_at dksX1_inverse_0 20 rfl rfl)
theorem dX1_inverse_21 : decode cX1_inverse 21 = .ok (.lreturn, 1) := dk_173 (dk_at dksX1_inverse_0 21 rfl rfl)
abbrev cX1_holes : ByteArray := prog_14_method_78_code
def yX1_holes : MethodName := ⟨RX1, "holes", "(II)I"⟩
def dkwX1_holes_3 : List UInt8 := [4, 46, 29, 100, 21, 4, 100, 167, 0, 12, 42, 180, 0, 7, 5, 46, 21, 4, 100, 172]
abbrev dktX1_holes_3 : List UInt8 := dkwX1_holes_3 ++ []
def dkwX1_holes_2 : List UInt8 := [27, 154, 0, 14, 42, 180, 0, 7, 3, 46, 29, 100, 167, 0, 31, 27, 4, 160, 0, 17, 42, 180, 0, 7]
abbrev dktX1_holes_2 : List UInt8 := dkwX1_holes_2 ++ dktX1_holes_3
def dkwX1_holes_1 : List UInt8 := [184, 1, 56, 154, 0, 6, 18, 218, 172, 42, 4, 28, 182, 1, 59, 62, 42, 5, 28, 182, 1, 59, 54, 4]
abbrev dktX1_holes_1 : List UInt8 := dkwX1_holes_1 ++ dktX1_holes_2
def dkwX1_holes_0 : List UInt8 := [42, 182, 0, 244, 154, 0, 6, 18, 241, 172, 27, 133, 9, 20, 0, 242, 184, 0, 150, 153, 0, 10, 28]
abbrev dktX1_holes_0 : List UInt8 := dkwX1_holes_0 ++ dktX1_holes_1
theorem dksX1_holes_0 : cX1_holes.data.toList.drop 0 = dktX1_holes_0 := by decide +kernel
theorem dksX1_holes_1 : cX1_holes.data.toList.drop 23 = dktX1_holes_1 := dk_seg dksX1_holes_0 23 rfl rfl
theorem dksX1_holes_2 : cX1_holes.data.toList.drop 47 = dktX1_holes_2 := dk_seg dksX1_holes_1 24 rfl rfl
theorem dksX1_holes_3 : cX1_holes.data.toList.drop 71 = dktX1_holes_3 := dk_seg dksX1_holes_2 24 rfl rfl
theorem dX1_holes_0 : decode cX1_holes 0 = .ok (.aload_n 0, 1) := dk_42 (dk_at dksX1_holes_0 0 rfl rfl)
theorem dX1_holes_1 : decode cX1_holes 1 = .ok (.invokevirtual 244, 3) := dk_182 0 244 (dk_at dksX1_holes_0 1 rfl rfl)
theorem dX1_holes_4 : decode cX1_holes 4 = .ok (.ifCond .ne 6, 3) := dk_154 0 6 (dk_at dksX1_holes_0 4 rfl rfl)
theorem dX1_holes_7 : decode cX1_holes 7 = .ok (.ldc 241, 2) := dk_18 241 (dk_at dksX1_holes_0 7 rfl rfl)
theorem dX1_holes_9 : decode cX1_holes 9 = .ok (.ireturn, 1) := dk_172 (dk_at dksX1_holes_0 9 rfl rfl)
theorem dX1_holes_10 : decode cX1_holes 10 = .ok (.iload_n 1, 1) := dk_27 (dk_at dksX1_holes_0 10 rfl rfl)
theorem dX1_holes_11 : decode cX1_holes 11 = .ok (.i2l, 1) := dk_133 (dk_at dksX1_holes_0 11 rfl rfl)
theorem dX1_holes_12 : decode cX1_holes 12 = .ok (.lconst 0, 1) := dk_9 (dk_at dksX1_holes_0 12 rfl rfl)
theorem dX1_holes_13 : decode cX1_holes 13 = .ok (.ldc2_w 242, 3) := dk_20 0 242 (dk_at dksX1_holes_0 13 rfl rfl)
theorem dX1_holes_16 : decode cX1_holes 16 = .ok (.invokestatic 150, 3) := dk_184 0 150 (dk_at dksX1_holes_0 16 rfl rfl)
theorem dX1_holes_19 : decode cX1_holes 19 = .ok (.ifCond .eq 10, 3) := dk_153 0 10 (dk_at dksX1_holes_0 19 rfl rfl)
theorem dX1_holes_22 : decode cX1_holes 22 = .ok (.iload_n 2, 1) := dk_28 (dk_at dksX1_holes_0 22 rfl rfl)
theorem dX1_holes_23 : decode cX1_holes 23 = .ok (.invokestatic 312, 3) := dk_184 1 56 (dk_at dksX1_holes_1 0 rfl rfl)
theorem dX1_holes_26 : decode cX1_holes 26 = .ok (.ifCond .ne 6, 3) := dk_154 0 6 (dk_at dksX1_holes_1 3 rfl rfl)
theorem dX1_holes_29 : decode cX1_holes 29 = .ok (.ldc 218, 2) := dk_18 218 (dk_at dksX1_holes_1 6 rfl rfl)
theorem dX1_holes_31 : decode cX1_holes 31 = .ok (.ireturn, 1) := dk_172 (dk_at dksX1_holes_1 8 rfl rfl)
theorem dX1_holes_32 : decode cX1_holes 32 = .ok (.aload_n 0, 1) := dk_42 (dk_at dksX1_holes_1 9 rfl rfl)
theorem dX1_holes_33 : decode cX1_holes 33 = .ok (.iconst 1, 1) := dk_4 (dk_at dksX1_holes_1 10 rfl rfl)
theorem dX1_holes_34 : decode cX1_holes 34 = .ok (.iload_n 2, 1) := dk_28 (dk_at dksX1_holes_1 11 rfl rfl)
theorem dX1_holes_35 : decode cX1_holes 35 = .ok (.invokevirtual 315, 3) := dk_182 1 59 (dk_at dksX1_holes_1 12 rfl rfl)
theorem dX1_holes_38 : decode cX1_holes 38 = .ok (.istore_n 3, 1) := dk_62 (dk_at dksX1_holes_1 15 rfl rfl)
theorem dX1_holes_39 : decode cX1_holes 39 = .ok (.aload_n 0, 1) := dk_42 (dk_at dksX1_holes_1 16 rfl rfl)
theorem dX1_holes_40 : decode cX1_holes 40 = .ok (.iconst 2, 1) := dk_5 (dk_at dksX1_holes_1 17 rfl rfl)
theorem dX1_holes_41 : decode cX1_holes 41 = .ok (.iload_n 2, 1) := dk_28 (dk_at dksX1_holes_1 18 rfl rfl)
theorem dX1_holes_42 : decode cX1_holes 42 = .ok (.invokevirtual 315, 3) := dk_182 1 59 (dk_at dksX1_holes_1 19 rfl rfl)
theorem dX1_holes_45 : decode cX1_holes 45 = .ok (.istore 4, 2) := dk_54 4 (dk_at dksX1_holes_1 22 rfl rfl)
theorem dX1_holes_47 : decode cX1_holes 47 = .ok (.iload_n 1, 1) := dk_27 (dk_at dksX1_holes_2 0 rfl rfl)
theorem dX1_holes_48 : decode cX1_holes 48 = .ok (.ifCond .ne 14, 3) := dk_154 0 14 (dk_at dksX1_holes_2 1 rfl rfl)
theorem dX1_holes_51 : decode cX1_holes 51 = .ok (.aload_n 0, 1) := dk_42 (dk_at dksX1_holes_2 4 rfl rfl)
theorem dX1_holes_52 : decode cX1_holes 52 = .ok (.getfield 7, 3) := dk_180 0 7 (dk_at dksX1_holes_2 5 rfl rfl)
theorem dX1_holes_55 : decode cX1_holes 55 = .ok (.iconst 0, 1) := dk_3 (dk_at dksX1_holes_2 8 rfl rfl)
theorem dX1_holes_56 : decode cX1_holes 56 = .ok (.iaload, 1) := dk_46 (dk_at dksX1_holes_2 9 rfl rfl)
theorem dX1_holes_57 : decode cX1_holes 57 = .ok (.iload_n 3, 1) := dk_29 (dk_at dksX1_holes_2 10 rfl rfl)
theorem dX1_holes_58 : decode cX1_holes 58 = .ok (.isub, 1) := dk_100 (dk_at dksX1_holes_2 11 rfl rfl)
theorem dX1_holes_59 : decode cX1_holes 59 = .ok (.goto 31, 3) := dk_167 0 31 (dk_at dksX1_holes_2 12 rfl rfl)
theorem dX1_holes_62 : decode cX1_holes 62 = .ok (.iload_n 1, 1) := dk_27 (dk_at dksX1_holes_2 15 rfl rfl)
theorem dX1_holes_63 : decode cX1_holes 63 = .ok (.iconst 1, 1) := dk_4 (dk_at dksX1_holes_2 16 rfl rfl)
theorem dX1_holes_64 : decode cX1_holes 64 = .ok (.if_icmp .ne 17, 3) := dk_160 0 17 (dk_at dksX1_holes_2 17 rfl rfl)
theorem dX1_holes_67 : decode cX1_holes 67 = .ok (.aload_n 0, 1) := dk_42 (dk_at dksX1_holes_2 20 rfl rfl)
theorem dX1_holes_68 : decode cX1_holes 68 = .ok (.getfield 7, 3) := dk_180 0 7 (dk_at dksX1_holes_2 21 rfl rfl)
theorem dX1_holes_71 : decode cX1_holes 71 = .ok (.iconst 1, 1) := dk_4 (dk_at dksX1_holes_3 0 rfl rfl)
theorem dX1_holes_72 : decode cX1_holes 72 = .ok (.iaload, 1) := dk_46 (dk_at dksX1_holes_3 1 rfl rfl)
theorem dX1_holes_73 : decode cX1_holes 73 = .ok (.iload_n 3, 1) := dk_29 (dk_at dksX1_holes_3 2 rfl rfl)
theorem dX1_holes_74 : decode cX1_holes 74 = .ok (.isub, 1) := dk_100 (dk_at dksX1_holes_3 3 rfl rfl)
theorem dX1_holes_75 : decode cX1_holes 75 = .ok (.iload 4, 2) := dk_21 4 (dk_at dksX1_holes_3 4 rfl rfl)
theorem dX1_holes_77 : decode cX1_holes 77 = .ok (.isub, 1) := dk_100 (dk_at dksX1_holes_3 6 rfl rfl)
theorem dX1_holes_78 : decode cX1_holes 78 = .ok (.goto 12, 3) := dk_167 0 12 (dk_at dksX1_holes_3 7 rfl rfl)
theorem dX1_holes_81 : decode cX1_holes 81 = .ok (.aload_n 0, 1) := dk_42 (dk_at dksX1_holes_3 10 rfl rfl)
theorem dX1_holes_82 : decode cX1_holes 82 = .ok (.getfield 7, 3) := dk_180 0 7 (dk_at dksX1_holes_3 11 rfl rfl)
theorem dX1_holes_85 : decode cX1_holes 85 = .ok (.iconst 2, 1) := dk_5 (dk_at dksX1_holes_3 14 rfl rfl)
theorem dX1_holes_86 : decode cX1_holes 86 = .ok (.iaload, 1) := dk_46 (dk_at dksX1_holes_3 15 rfl rfl)
theorem dX1_holes_87 : decode cX1_holes 87 = .ok (.iload 4, 2) := dk_21 4 (dk_at dksX1_holes_3 16 rfl rfl)
theorem dX1_holes_89 : decode cX1_holes 89 = .ok (.isub, 1) := dk_100 (dk_at dksX1_holes_3 18 rfl rfl)
theorem dX1_holes_90 : decode cX1_holes 90 = .ok (.ireturn, 1) := dk_172 (dk_at dksX1_holes_3 19 rfl rfl)
abbrev cX1_twist : ByteArray := prog_14_method_79_code
def yX1_twist : MethodName := ⟨RX1, "twist", "(II)I"⟩
def dkwX1_twist_3 : List UInt8 := [42, 5, 27, 28, 4, 100, 3, 182, 0, 121, 109, 136, 172]
abbrev dktX1_twist_3 : List UInt8 := dkwX1_twist_3 ++ []
def dkwX1_twist_2 : List UInt8 := [182, 0, 121, 136, 172, 28, 29, 164, 0, 9, 19, 1, 35, 167, 0, 23, 42, 5, 27, 28, 3, 182, 0, 121]
abbrev dktX1_twist_2 : List UInt8 := dkwX1_twist_2 ++ dktX1_twist_3
def dkwX1_twist_1 : List UInt8 := [156, 0, 6, 18, 218, 172, 42, 5, 27, 3, 182, 0, 127, 62, 28, 154, 0, 13, 42, 5, 27, 29, 3]
abbrev dktX1_twist_1 : List UInt8 := dkwX1_twist_1 ++ dktX1_twist_2
def dkwX1_twist_0 : List UInt8 := [42, 182, 0, 244, 154, 0, 6, 18, 241, 172, 27, 155, 0, 16, 27, 42, 5, 182, 0, 124, 163, 0, 7, 28]
abbrev dktX1_twist_0 : List UInt8 := dkwX1_twist_0 ++ dktX1_twist_1
theorem dksX1_twist_0 : cX1_twist.data.toList.drop 0 = dktX1_twist_0 := by decide +kernel
theorem dksX1_twist_1 : cX1_twist.data.toList.drop 24 = dktX1_twist_1 := dk_seg dksX1_twist_0 24 rfl rfl
theorem dksX1_twist_2 : cX1_twist.data.toList.drop 47 = dktX1_twist_2 := dk_seg dksX1_twist_1 23 rfl rfl
theorem dksX1_twist_3 : cX1_twist.data.toList.drop 71 = dktX1_twist_3 := dk_seg dksX1_twist_2 24 rfl rfl
theorem dX1_twist_0 : decode cX1_twist 0 = .ok (.aload_n 0, 1) := dk_42 (dk_at dksX1_twist_0 0 rfl rfl)
theorem dX1_twist_1 : decode cX1_twist 1 = .ok (.invokevirtual 244, 3) := dk_182 0 244 (dk_at dksX1_twist_0 1 rfl rfl)
theorem dX1_twist_4 : decode cX1_twist 4 = .ok (.ifCond .ne 6, 3) := dk_154 0 6 (dk_at dksX1_twist_0 4 rfl rfl)
theorem dX1_twist_7 : decode cX1_twist 7 = .ok (.ldc 241, 2) := dk_18 241 (dk_at dksX1_twist_0 7 rfl rfl)
theorem dX1_twist_9 : decode cX1_twist 9 = .ok (.ireturn, 1) := dk_172 (dk_at dksX1_twist_0 9 rfl rfl)
theorem dX1_twist_10 : decode cX1_twist 10 = .ok (.iload_n 1, 1) := dk_27 (dk_at dksX1_twist_0 10 rfl rfl)
theorem dX1_twist_11 : decode cX1_twist 11 = .ok (.ifCond .lt 16, 3) := dk_155 0 16 (dk_at dksX1_twist_0 11 rfl rfl)
theorem dX1_twist_14 : decode cX1_twist 14 = .ok (.iload_n 1, 1) := dk_27 (dk_at dksX1_twist_0 14 rfl rfl)
theorem dX1_twist_15 : decode cX1_twist 15 = .ok (.aload_n 0, 1) := dk_42 (dk_at dksX1_twist_0 15 rfl rfl)
theorem dX1_twist_16 : decode cX1_twist 16 = .ok (.iconst 2, 1) := dk_5 (dk_at dksX1_twist_0 16 rfl rfl)
theorem dX1_twist_17 : decode cX1_twist 17 = .ok (.invokevirtual 124, 3) := dk_182 0 124 (dk_at dksX1_twist_0 17 rfl rfl)
theorem dX1_twist_20 : decode cX1_twist 20 = .ok (.if_icmp .gt 7, 3) := dk_163 0 7 (dk_at dksX1_twist_0 20 rfl rfl)
theorem dX1_twist_23 : decode cX1_twist 23 = .ok (.iload_n 2, 1) := dk_28 (dk_at dksX1_twist_0 23 rfl rfl)
theorem dX1_twist_24 : decode cX1_twist 24 = .ok (.ifCond .ge 6, 3) := dk_156 0 6 (dk_at dksX1_twist_1 0 rfl rfl)
theorem dX1_twist_27 : decode cX1_twist 27 = .ok (.ldc 218, 2) := dk_18 218 (dk_at dksX1_twist_1 3 rfl rfl)
theorem dX1_twist_29 : decode cX1_twist 29 = .ok (.ireturn, 1) := dk_172 (dk_at dksX1_twist_1 5 rfl rfl)
theorem dX1_twist_30 : decode cX1_twist 30 = .ok (.aload_n 0, 1) := dk_42 (dk_at dksX1_twist_1 6 rfl rfl)
theorem dX1_twist_31 : decode cX1_twist 31 = .ok (.iconst 2, 1) := dk_5 (dk_at dksX1_twist_1 7 rfl rfl)
theorem dX1_twist_32 : decode cX1_twist 32 = .ok (.iload_n 1, 1) := dk_27 (dk_at dksX1_twist_1 8 rfl rfl)
theorem dX1_twist_33 : decode cX1_twist 33 = .ok (.iconst 0, 1) := dk_3 (dk_at dksX1_twist_1 9 rfl rfl)
theorem dX1_twist_34 : decode cX1_twist 34 = .ok (.invokevirtual 127, 3) := dk_182 0 127 (dk_at dksX1_twist_1 10 rfl rfl)
theorem dX1_twist_37 : decode cX1_twist 37 = .ok (.istore_n 3, 1) := dk_62 (dk_at dksX1_twist_1 13 rfl rfl)
theorem dX1_twist_38 : decode cX1_twist 38 = .ok (.iload_n 2, 1) := dk_28 (dk_at dksX1_twist_1 14 rfl rfl)
theorem dX1_twist_39 : decode cX1_twist 39 = .ok (.ifCond .ne 13, 3) := dk_154 0 13 (dk_at dksX1_twist_1 15 rfl rfl)
theorem dX1_twist_42 : decode cX1_twist 42 = .ok (.aload_n 0, 1) := dk_42 (dk_at dksX1_twist_1 18 rfl rfl)
theorem dX1_twist_43 : decode cX1_twist 43 = .ok (.iconst 2, 1) := dk_5 (dk_at dksX1_twist_1 19 rfl rfl)
theorem dX1_twist_44 : decode cX1_twist 44 = .ok (.iload_n 1, 1) := dk_27 (dk_at dksX1_twist_1 20 rfl rfl)
theorem dX1_twist_45 : decode cX1_twist 45 = .ok (.iload_n 3, 1) := dk_29 (dk_at dksX1_twist_1 21 rfl rfl)
theorem dX1_twist_46 : decode cX1_twist 46 = .ok (.iconst 0, 1) := dk_3 (dk_at dksX1_twist_1 22 rfl rfl)
theorem dX1_twist_47 : decode cX1_twist 47 = .ok (.invokevirtual 121, 3) := dk_182 0 121 (dk_at dksX1_twist_2 0 rfl rfl)
theorem dX1_twist_50 : decode cX1_twist 50 = .ok (.l2i, 1) := dk_136 (dk_at dksX1_twist_2 3 rfl rfl)
theorem dX1_twist_51 : decode cX1_twist 51 = .ok (.ireturn, 1) := dk_172 (dk_at dksX1_twist_2 4 rfl rfl)
theorem dX1_twist_52 : decode cX1_twist 52 = .ok (.iload_n 2, 1) := dk_28 (dk_at dksX1_twist_2 5 rfl rfl)
theorem dX1_twist_53 : decode cX1_twist 53 = .ok (.iload_n 3, 1) := dk_29 (dk_at dksX1_twist_2 6 rfl rfl)
theorem dX1_twist_54 : decode cX1_twist 54 = .ok (.if_icmp .le 9, 3) := dk_164 0 9 (dk_at dksX1_twist_2 7 rfl rfl)
theorem dX1_twist_57 : decode cX1_twist 57 = .ok (.ldc_w 291, 3) := dk_19 1 35 (dk_at dksX1_twist_2 10 rfl rfl)
theorem dX1_twist_60 : decode cX1_twist 60 = .ok (.goto 23, 3) := dk_167 0 23 (dk_at dksX1_twist_2 13 rfl rfl)
theorem dX1_twist_63 : decode cX1_twist 63 = .ok (.aload_n 0, 1) := dk_42 (dk_at dksX1_twist_2 16 rfl rfl)
theorem dX1_twist_64 : decode cX1_twist 64 = .ok (.iconst 2, 1) := dk_5 (dk_at dksX1_twist_2 17 rfl rfl)
theorem dX1_twist_65 : decode cX1_twist 65 = .ok (.iload_n 1, 1) := dk_27 (dk_at dksX1_twist_2 18 rfl rfl)
theorem dX1_twist_66 : decode cX1_twist 66 = .ok (.iload_n 2, 1) := dk_28 (dk_at dksX1_twist_2 19 rfl rfl)
theorem dX1_twist_67 : decode cX1_twist 67 = .ok (.iconst 0, 1) := dk_3 (dk_at dksX1_twist_2 20 rfl rfl)
theorem dX1_twist_68 : decode cX1_twist 68 = .ok (.invokevirtual 121, 3) := dk_182 0 121 (dk_at dksX1_twist_2 21 rfl rfl)
theorem dX1_twist_71 : decode cX1_twist 71 = .ok (.aload_n 0, 1) := dk_42 (dk_at dksX1_twist_3 0 rfl rfl)
theorem dX1_twist_72 : decode cX1_twist 72 = .ok (.iconst 2, 1) := dk_5 (dk_at dksX1_twist_3 1 rfl rfl)
theorem dX1_twist_73 : decode cX1_twist 73 = .ok (.iload_n 1, 1) := dk_27 (dk_at dksX1_twist_3 2 rfl rfl)
theorem dX1_twist_74 : decode cX1_twist 74 = .ok (.iload_n 2, 1) := dk_28 (dk_at dksX1_twist_3 3 rfl rfl)
theorem dX1_twist_75 : decode cX1_twist 75 = .ok (.iconst 1, 1) := dk_4 (dk_at dksX1_twist_3 4 rfl rfl)
theorem dX1_twist_76 : decode cX1_twist 76 = .ok (.isub, 1) := dk_100 (dk_at dksX1_twist_3 5 rfl rfl)
theorem dX1_twist_77 : decode cX1_twist 77 = .ok (.iconst 0, 1) := dk_3 (dk_at dksX1_twist_3 6 rfl rfl)
theorem dX1_twist_78 : decode cX1_twist 78 = .ok (.invokevirtual 121, 3) := dk_182 0 121 (dk_at dksX1_twist_3 7 rfl rfl)
theorem dX1_twist_81 : decode cX1_twist 81 = .ok (.ldiv, 1) := dk_109 (dk_at dksX1_twist_3 10 rfl rfl)
theorem dX1_twist_82 : decode cX1_twist 82 = .ok (.l2i, 1) := dk_136 (dk_at dksX1_twist_3 11 rfl rfl)
theorem dX1_twist_83 : decode cX1_twist 83 = .ok (.ireturn, 1) := dk_172 (dk_at dksX1_twist_3 12 rfl rfl)
abbrev cX1_chain : ByteArray := prog_14_method_80_code
def yX1_chain : MethodName := ⟨RX1, "chain", "(II)I"⟩
def dkwX1_chain_1 : List UInt8 := [16, 6, 27, 104, 96, 28, 96, 46, 167, 0, 5, 18, 218, 172]
abbrev dktX1_chain_1 : List UInt8 := dkwX1_chain_1 ++ []
def dkwX1_chain_0 : List UInt8 := [42, 27, 182, 1, 10, 153, 0, 29, 42, 4, 28, 182, 0, 247, 153, 0, 20, 42, 180, 0, 7, 16, 45]
abbrev dktX1_chain_0 : List UInt8 := dkwX1_chain_0 ++ dktX1_chain_1
theorem dksX1_chain_0 : cX1_chain.data.toList.drop 0 = dktX1_chain_0 := by decide +kernel
theorem dksX1_chain_1 : cX1_chain.data.toList.drop 23 = dktX1_chain_1 := dk_seg dksX1_chain_0 23 rfl rfl
theorem dX1_chain_0 : decode cX1_chain 0 = .ok (.aload_n 0, 1) := dk_42 (dk_at dksX1_chain_0 0 rfl rfl)
theorem dX1_chain_1 : decode cX1_chain 1 = .ok (.iload_n 1, 1) := dk_27 (dk_at dksX1_chain_0 1 rfl rfl)
theorem dX1_chain_2 : decode cX1_chain 2 = .ok (.invokevirtual 266, 3) := dk_182 1 10 (dk_at dksX1_chain_0 2 rfl rfl)
theorem dX1_chain_5 : decode cX1_chain 5 = .ok (.ifCond .eq 29, 3) := dk_153 0 29 (dk_at dksX1_chain_0 5 rfl rfl)
theorem dX1_chain_8 : decode cX1_chain 8 = .ok (.aload_n 0, 1) := dk_42 (dk_at dksX1_chain_0 8 rfl rfl)
theorem dX1_chain_9 : decode cX1_chain 9 = .ok (.iconst 1, 1) := dk_4 (dk_at dksX1_chain_0 9 rfl rfl)
theorem dX1_chain_10 : decode cX1_chain 10 = .ok (.iload_n 2, 1) := dk_28 (dk_at dksX1_chain_0 10 rfl rfl)
theorem dX1_chain_11 : decode cX1_chain 11 = .ok (.invokevirtual 247, 3) := dk_182 0 247 (dk_at dksX1_chain_0 11 rfl rfl)
theorem dX1_chain_14 : decode cX1_chain 14 = .ok (.ifCond .eq 20, 3) := dk_153 0 20 (dk_at dksX1_chain_0 14 rfl rfl)
theorem dX1_chain_17 : decode cX1_chain 17 = .ok (.aload_n 0, 1) := dk_42 (dk_at dksX1_chain_0 17 rfl rfl)
theorem dX1_chain_18 : decode cX1_chain 18 = .ok (.getfield 7, 3) := dk_180 0 7 (dk_at dksX1_chain_0 18 rfl rfl)
theorem dX1_chain_21 : decode cX1_chain 21 = .ok (.bipush 45, 2) := dk_16 45 (dk_at dksX1_chain_0 21 rfl rfl)
theorem dX1_chain_23 : decode cX1_chain 23 = .ok (.bipush 6, 2) := dk_16 6 (dk_at dksX1_chain_1 0 rfl rfl)
theorem dX1_chain_25 : decode cX1_chain 25 = .ok (.iload_n 1, 1) := dk_27 (dk_at dksX1_chain_1 2 rfl rfl)
theorem dX1_chain_26 : decode cX1_chain 26 = .ok (.imul, 1) := dk_104 (dk_at dksX1_chain_1 3 rfl rfl)
theorem dX1_chain_27 : decode cX1_chain 27 = .ok (.iadd, 1) := dk_96 (dk_at dksX1_chain_1 4 rfl rfl)
theorem dX1_chain_28 : decode cX1_chain 28 = .ok (.iload_n 2, 1) := dk_28 (dk_at dksX1_chain_1 5 rfl rfl)
theorem dX1_chain_29 : decode cX1_chain 29 = .ok (.iadd, 1) := dk_96 (dk_at dksX1_chain_1 6 rfl rfl)
theorem dX1_chain_30 : decode cX1_chain 30 = .ok (.iaload, 1) := dk_46 (dk_at dksX1_chain_1 7 rfl rfl)
theorem dX1_chain_31 : decode cX1_chain 31 = .ok (.goto 5, 3) := dk_167 0 5 (dk_at dksX1_chain_1 8 rfl rfl)
theorem dX1_chain_34 : decode cX1_chain 34 = .ok (.ldc 218, 2) := dk_18 218 (dk_at dksX1_chain_1 11 rfl rfl)
theorem dX1_chain_36 : decode cX1_chain 36 = .ok (.ireturn, 1) := dk_172 (dk_at dksX1_chain_1 13 rfl rfl)
abbrev cX1_ends : ByteArray := prog_14_method_82_code
def yX1_ends : MethodName := ⟨RX1, "ends", "(II)I"⟩
def dkwX1_ends_1 : List UInt8 := [167, 0, 5, 18, 218, 172]
abbrev dktX1_ends_1 : List UInt8 := dkwX1_ends_1 ++ []
def dkwX1_ends_0 : List UInt8 := [42, 27, 182, 1, 10, 153, 0, 21, 42, 3, 28, 182, 0, 247, 153, 0, 12, 42, 27, 28, 182, 1, 62]
abbrev dktX1_ends_0 : List UInt8 := dkwX1_ends_0 ++ dktX1_ends_1
theorem dksX1_ends_0 : cX1_ends.data.toList.drop 0 = dktX1_ends_0 := by decide +kernel
theorem dksX1_ends_1 : cX1_ends.data.toList.drop 23 = dktX1_ends_1 := dk_seg dksX1_ends_0 23 rfl rfl
theorem dX1_ends_0 : decode cX1_ends 0 = .ok (.aload_n 0, 1) := dk_42 (dk_at dksX1_ends_0 0 rfl rfl)
theorem dX1_ends_1 : decode cX1_ends 1 = .ok (.iload_n 1, 1) := dk_27 (dk_at dksX1_ends_0 1 rfl rfl)
theorem dX1_ends_2 : decode cX1_ends 2 = .ok (.invokevirtual 266, 3) := dk_182 1 10 (dk_at dksX1_ends_0 2 rfl rfl)
theorem dX1_ends_5 : decode cX1_ends 5 = .ok (.ifCond .eq 21, 3) := dk_153 0 21 (dk_at dksX1_ends_0 5 rfl rfl)
theorem dX1_ends_8 : decode cX1_ends 8 = .ok (.aload_n 0, 1) := dk_42 (dk_at dksX1_ends_0 8 rfl rfl)
theorem dX1_ends_9 : decode cX1_ends 9 = .ok (.iconst 0, 1) := dk_3 (dk_at dksX1_ends_0 9 rfl rfl)
theorem dX1_ends_10 : decode cX1_ends 10 = .ok (.iload_n 2, 1) := dk_28 (dk_at dksX1_ends_0 10 rfl rfl)
theorem dX1_ends_11 : decode cX1_ends 11 = .ok (.invokevirtual 247, 3) := dk_182 0 247 (dk_at dksX1_ends_0 11 rfl rfl)
theorem dX1_ends_14 : decode cX1_ends 14 = .ok (.ifCond .eq 12, 3) := dk_153 0 12 (dk_at dksX1_ends_0 14 rfl rfl)
theorem dX1_ends_17 : decode cX1_ends 17 = .ok (.aload_n 0, 1) := dk_42 (dk_at dksX1_ends_0 17 rfl rfl)
theorem dX1_ends_18 : decode cX1_ends 18 = .ok (.iload_n 1, 1) := dk_27 (dk_at dksX1_ends_0 18 rfl rfl)
theorem dX1_ends_19 : decode cX1_ends 19 = .ok (.iload_n 2, 1) := dk_28 (dk_at dksX1_ends_0 19 rfl rfl)
theorem dX1_ends_20 : decode cX1_ends 20 = .ok (.invokevirtual 318, 3) := dk_182 1 62 (dk_at dksX1_ends_0 20 rfl rfl)
theorem dX1_ends_23 : decode cX1_ends 23 = .ok (.goto 5, 3) := dk_167 0 5 (dk_at dksX1_ends_1 0 rfl rfl)
theorem dX1_ends_26 : decode cX1_ends 26 = .ok (.ldc 218, 2) := dk_18 218 (dk_at dksX1_ends_1 3 rfl rfl)
theorem dX1_ends_28 : decode cX1_ends 28 = .ok (.ireturn, 1) := dk_172 (dk_at dksX1_ends_1 5 rfl rfl)
abbrev cX1_endsAt : ByteArray := prog_14_method_81_code
def yX1_endsAt : MethodName := ⟨RX1, "endsAt", "(II)I"⟩
def dkwX1_endsAt_2 : List UInt8 := [167, 255, 216, 29, 172]
abbrev dktX1_endsAt_2 : List UInt8 := dkwX1_endsAt_2 ++ []
def dkwX1_endsAt_1 : List UInt8 := [16, 6, 27, 104, 96, 21, 4, 96, 46, 42, 28, 21, 4, 182, 0, 67, 104, 96, 62, 132, 4, 1]
abbrev dktX1_endsAt_1 : List UInt8 := dkwX1_endsAt_1 ++ dktX1_endsAt_2
def dkwX1_endsAt_0 : List UInt8 := [3, 62, 3, 54, 4, 21, 4, 42, 180, 0, 7, 4, 46, 162, 0, 35, 29, 42, 180, 0, 7, 16, 45]
abbrev dktX1_endsAt_0 : List UInt8 := dkwX1_endsAt_0 ++ dktX1_endsAt_1
theorem dksX1_endsAt_0 : cX1_endsAt.data.toList.drop 0 = dktX1_endsAt_0 := by decide +kernel
theorem dksX1_endsAt_1 : cX1_endsAt.data.toList.drop 23 = dktX1_endsAt_1 := dk_seg dksX1_endsAt_0 23 rfl rfl
theorem dksX1_endsAt_2 : cX1_endsAt.data.toList.drop 45 = dktX1_endsAt_2 := dk_seg dksX1_endsAt_1 22 rfl rfl
theorem dX1_endsAt_0 : decode cX1_endsAt 0 = .ok (.iconst 0, 1) := dk_3 (dk_at dksX1_endsAt_0 0 rfl rfl)
theorem dX1_endsAt_1 : decode cX1_endsAt 1 = .ok (.istore_n 3, 1) := dk_62 (dk_at dksX1_endsAt_0 1 rfl rfl)
theorem dX1_endsAt_2 : decode cX1_endsAt 2 = .ok (.iconst 0, 1) := dk_3 (dk_at dksX1_endsAt_0 2 rfl rfl)
theorem dX1_endsAt_3 : decode cX1_endsAt 3 = .ok (.istore 4, 2) := dk_54 4 (dk_at dksX1_endsAt_0 3 rfl rfl)
theorem dX1_endsAt_5 : decode cX1_endsAt 5 = .ok (.iload 4, 2) := dk_21 4 (dk_at dksX1_endsAt_0 5 rfl rfl)
theorem dX1_endsAt_7 : decode cX1_endsAt 7 = .ok (.aload_n 0, 1) := dk_42 (dk_at dksX1_endsAt_0 7 rfl rfl)
theorem dX1_endsAt_8 : decode cX1_endsAt 8 = .ok (.getfield 7, 3) := dk_180 0 7 (dk_at dksX1_endsAt_0 8 rfl rfl)
theorem dX1_endsAt_11 : decode cX1_endsAt 11 = .ok (.iconst 1, 1) := dk_4 (dk_at dksX1_endsAt_0 11 rfl rfl)
theorem dX1_endsAt_12 : decode cX1_endsAt 12 = .ok (.iaload, 1) := dk_46 (dk_at dksX1_endsAt_0 12 rfl rfl)
theorem dX1_endsAt_13 : decode cX1_endsAt 13 = .ok (.if_icmp .ge 35, 3) := dk_162 0 35 (dk_at dksX1_endsAt_0 13 rfl rfl)
theorem dX1_endsAt_16 : decode cX1_endsAt 16 = .ok (.iload_n 3, 1) := dk_29 (dk_at dksX1_endsAt_0 16 rfl rfl)
theorem dX1_endsAt_17 : decode cX1_endsAt 17 = .ok (.aload_n 0, 1) := dk_42 (dk_at dksX1_endsAt_0 17 rfl rfl)
theorem dX1_endsAt_18 : decode cX1_endsAt 18 = .ok (.getfield 7, 3) := dk_180 0 7 (dk_at dksX1_endsAt_0 18 rfl rfl)
theorem dX1_endsAt_21 : decode cX1_endsAt 21 = .ok (.bipush 45, 2) := dk_16 45 (dk_at dksX1_endsAt_0 21 rfl rfl)
theorem dX1_endsAt_23 : decode cX1_endsAt 23 = .ok (.bipush 6, 2) := dk_16 6 (dk_at dksX1_endsAt_1 0 rfl rfl)
theorem dX1_endsAt_25 : decode cX1_endsAt 25 = .ok (.iload_n 1, 1) := dk_27 (dk_at dksX1_endsAt_1 2 rfl rfl)
theorem dX1_endsAt_26 : decode cX1_endsAt 26 = .ok (.imul, 1) := dk_104 (dk_at dksX1_endsAt_1 3 rfl rfl)
theorem dX1_endsAt_27 : decode cX1_endsAt 27 = .ok (.iadd, 1) := dk_96 (dk_at dksX1_endsAt_1 4 rfl rfl)
theorem dX1_endsAt_28 : decode cX1_endsAt 28 = .ok (.iload 4, 2) := dk_21 4 (dk_at dksX1_endsAt_1 5 rfl rfl)
theorem dX1_endsAt_30 : decode cX1_endsAt 30 = .ok (.iadd, 1) := dk_96 (dk_at dksX1_endsAt_1 7 rfl rfl)
theorem dX1_endsAt_31 : decode cX1_endsAt 31 = .ok (.iaload, 1) := dk_46 (dk_at dksX1_endsAt_1 8 rfl rfl)
theorem dX1_endsAt_32 : decode cX1_endsAt 32 = .ok (.aload_n 0, 1) := dk_42 (dk_at dksX1_endsAt_1 9 rfl rfl)
theorem dX1_endsAt_33 : decode cX1_endsAt 33 = .ok (.iload_n 2, 1) := dk_28 (dk_at dksX1_endsAt_1 10 rfl rfl)
theorem dX1_endsAt_34 : decode cX1_endsAt 34 = .ok (.iload 4, 2) := dk_21 4 (dk_at dksX1_endsAt_1 11 rfl rfl)
theorem dX1_endsAt_36 : decode cX1_endsAt 36 = .ok (.invokevirtual 67, 3) := dk_182 0 67 (dk_at dksX1_endsAt_1 13 rfl rfl)
theorem dX1_endsAt_39 : decode cX1_endsAt 39 = .ok (.imul, 1) := dk_104 (dk_at dksX1_endsAt_1 16 rfl rfl)
theorem dX1_endsAt_40 : decode cX1_endsAt 40 = .ok (.iadd, 1) := dk_96 (dk_at dksX1_endsAt_1 17 rfl rfl)
theorem dX1_endsAt_41 : decode cX1_endsAt 41 = .ok (.istore_n 3, 1) := dk_62 (dk_at dksX1_endsAt_1 18 rfl rfl)
theorem dX1_endsAt_42 : decode cX1_endsAt 42 = .ok (.iinc 4 1, 3) := dk_132 4 1 (dk_at dksX1_endsAt_1 19 rfl rfl)
theorem dX1_endsAt_45 : decode cX1_endsAt 45 = .ok (.goto (-40), 3) := dk_167 255 216 (dk_at dksX1_endsAt_2 0 rfl rfl)
theorem dX1_endsAt_48 : decode cX1_endsAt 48 = .ok (.iload_n 3, 1) := dk_29 (dk_at dksX1_endsAt_2 3 rfl rfl)
theorem dX1_endsAt_49 : decode cX1_endsAt 49 = .ok (.ireturn, 1) := dk_172 (dk_at dksX1_endsAt_2 4 rfl rfl)
abbrev cX1_whole : ByteArray := prog_14_method_85_code
def yX1_whole : MethodName := ⟨RX1, "whole", "(II)I"⟩
def dkwX1_whole_3 : List UInt8 := [182, 1, 68, 4, 160, 0, 7, 4, 167, 0, 4, 3, 172]
abbrev dktX1_whole_3 : List UInt8 := dkwX1_whole_3 ++ []
def dkwX1_whole_2 : List UInt8 := [153, 0, 7, 4, 167, 0, 4, 3, 172, 28, 5, 160, 0, 11, 42, 27, 182, 1, 68, 167, 0, 17, 42, 27]
abbrev dktX1_whole_2 : List UInt8 := dkwX1_whole_2 ++ dktX1_whole_3
def dkwX1_whole_1 : List UInt8 := [9, 20, 0, 242, 184, 0, 150, 154, 0, 6, 18, 218, 172, 28, 154, 0, 17, 42, 27, 182, 1, 65]
abbrev dktX1_whole_1 : List UInt8 := dkwX1_whole_1 ++ dktX1_whole_2
def dkwX1_whole_0 : List UInt8 := [42, 182, 0, 244, 154, 0, 6, 18, 241, 172, 27, 133, 9, 20, 0, 242, 184, 0, 150, 153, 0, 15, 28, 133]
abbrev dktX1_whole_0 : List UInt8 := dkwX1_whole_0 ++ dktX1_whole_1
theorem dksX1_whole_0 : cX1_whole.data.toList.drop 0 = dktX1_whole_0 := by decide +kernel
theorem dksX1_whole_1 : cX1_whole.data.toList.drop 24 = dktX1_whole_1 := dk_seg dksX1_whole_0 24 rfl rfl
theorem dksX1_whole_2 : cX1_whole.data.toList.drop 46 = dktX1_whole_2 := dk_seg dksX1_whole_1 22 rfl rfl
theorem dksX1_whole_3 : cX1_whole.data.toList.drop 70 = dktX1_whole_3 := dk_seg dksX1_whole_2 24 rfl rfl
theorem dX1_whole_0 : decode cX1_whole 0 = .ok (.aload_n 0, 1) := dk_42 (dk_at dksX1_whole_0 0 rfl rfl)
theorem dX1_whole_1 : decode cX1_whole 1 = .ok (.invokevirtual 244, 3) := dk_182 0 244 (dk_at dksX1_whole_0 1 rfl rfl)
theorem dX1_whole_4 : decode cX1_whole 4 = .ok (.ifCond .ne 6, 3) := dk_154 0 6 (dk_at dksX1_whole_0 4 rfl rfl)
theorem dX1_whole_7 : decode cX1_whole 7 = .ok (.ldc 241, 2) := dk_18 241 (dk_at dksX1_whole_0 7 rfl rfl)
theorem dX1_whole_9 : decode cX1_whole 9 = .ok (.ireturn, 1) := dk_172 (dk_at dksX1_whole_0 9 rfl rfl)
theorem dX1_whole_10 : decode cX1_whole 10 = .ok (.iload_n 1, 1) := dk_27 (dk_at dksX1_whole_0 10 rfl rfl)
theorem dX1_whole_11 : decode cX1_whole 11 = .ok (.i2l, 1) := dk_133 (dk_at dksX1_whole_0 11 rfl rfl)
theorem dX1_whole_12 : decode cX1_whole 12 = .ok (.lconst 0, 1) := dk_9 (dk_at dksX1_whole_0 12 rfl rfl)
theorem dX1_whole_13 : decode cX1_whole 13 = .ok (.ldc2_w 242, 3) := dk_20 0 242 (dk_at dksX1_whole_0 13 rfl rfl)
theorem dX1_whole_16 : decode cX1_whole 16 = .ok (.invokestatic 150, 3) := dk_184 0 150 (dk_at dksX1_whole_0 16 rfl rfl)
theorem dX1_whole_19 : decode cX1_whole 19 = .ok (.ifCond .eq 15, 3) := dk_153 0 15 (dk_at dksX1_whole_0 19 rfl rfl)
theorem dX1_whole_22 : decode cX1_whole 22 = .ok (.iload_n 2, 1) := dk_28 (dk_at dksX1_whole_0 22 rfl rfl)
theorem dX1_whole_23 : decode cX1_whole 23 = .ok (.i2l, 1) := dk_133 (dk_at dksX1_whole_0 23 rfl rfl)
theorem dX1_whole_24 : decode cX1_whole 24 = .ok (.lconst 0, 1) := dk_9 (dk_at dksX1_whole_1 0 rfl rfl)
theorem dX1_whole_25 : decode cX1_whole 25 = .ok (.ldc2_w 242, 3) := dk_20 0 242 (dk_at dksX1_whole_1 1 rfl rfl)
theorem dX1_whole_28 : decode cX1_whole 28 = .ok (.invokestatic 150, 3) := dk_184 0 150 (dk_at dksX1_whole_1 4 rfl rfl)
theorem dX1_whole_31 : decode cX1_whole 31 = .ok (.ifCond .ne 6, 3) := dk_154 0 6 (dk_at dksX1_whole_1 7 rfl rfl)
theorem dX1_whole_34 : decode cX1_whole 34 = .ok (.ldc 218, 2) := dk_18 218 (dk_at dksX1_whole_1 10 rfl rfl)
theorem dX1_whole_36 : decode cX1_whole 36 = .ok (.ireturn, 1) := dk_172 (dk_at dksX1_whole_1 12 rfl rfl)
theorem dX1_whole_37 : decode cX1_whole 37 = .ok (.iload_n 2, 1) := dk_28 (dk_at dksX1_whole_1 13 rfl rfl)
theorem dX1_whole_38 : decode cX1_whole 38 = .ok (.ifCond .ne 17, 3) := dk_154 0 17 (dk_at dksX1_whole_1 14 rfl rfl)
theorem dX1_whole_41 : decode cX1_whole 41 = .ok (.aload_n 0, 1) := dk_42 (dk_at dksX1_whole_1 17 rfl rfl)
theorem dX1_whole_42 : decode cX1_whole 42 = .ok (.iload_n 1, 1) := dk_27 (dk_at dksX1_whole_1 18 rfl rfl)
theorem dX1_whole_43 : decode cX1_whole 43 = .ok (.invokevirtual 321, 3) := dk_182 1 65 (dk_at dksX1_whole_1 19 rfl rfl)
theorem dX1_whole_46 : decode cX1_whole 46 = .ok (.ifCond .eq 7, 3) := dk_153 0 7 (dk_at dksX1_whole_2 0 rfl rfl)
theorem dX1_whole_49 : decode cX1_whole 49 = .ok (.iconst 1, 1) := dk_4 (dk_at dksX1_whole_2 3 rfl rfl)
theorem dX1_whole_50 : decode cX1_whole 50 = .ok (.goto 4, 3) := dk_167 0 4 (dk_at dksX1_whole_2 4 rfl rfl)
theorem dX1_whole_53 : decode cX1_whole 53 = .ok (.iconst 0, 1) := dk_3 (dk_at dksX1_whole_2 7 rfl rfl)
theorem dX1_whole_54 : decode cX1_whole 54 = .ok (.ireturn, 1) := dk_172 (dk_at dksX1_whole_2 8 rfl rfl)
theorem dX1_whole_55 : decode cX1_whole 55 = .ok (.iload_n 2, 1) := dk_28 (dk_at dksX1_whole_2 9 rfl rfl)
theorem dX1_whole_56 : decode cX1_whole 56 = .ok (.iconst 2, 1) := dk_5 (dk_at dksX1_whole_2 10 rfl rfl)
theorem dX1_whole_57 : decode cX1_whole 57 = .ok (.if_icmp .ne 11, 3) := dk_160 0 11 (dk_at dksX1_whole_2 11 rfl rfl)
theorem dX1_whole_60 : decode cX1_whole 60 = .ok (.aload_n 0, 1) := dk_42 (dk_at dksX1_whole_2 14 rfl rfl)
theorem dX1_whole_61 : decode cX1_whole 61 = .ok (.iload_n 1, 1) := dk_27 (dk_at dksX1_whole_2 15 rfl rfl)
theorem dX1_whole_62 : decode cX1_whole 62 = .ok (.invokevirtual 324, 3) := dk_182 1 68 (dk_at dksX1_whole_2 16 rfl rfl)
theorem dX1_whole_65 : decode cX1_whole 65 = .ok (.goto 17, 3) := dk_167 0 17 (dk_at dksX1_whole_2 19 rfl rfl)
theorem dX1_whole_68 : decode cX1_whole 68 = .ok (.aload_n 0, 1) := dk_42 (dk_at dksX1_whole_2 22 rfl rfl)
theorem dX1_whole_69 : decode cX1_whole 69 = .ok (.iload_n 1, 1) := dk_27 (dk_at dksX1_whole_2 23 rfl rfl)
theorem dX1_whole_70 : decode cX1_whole 70 = .ok (.invokevirtual 324, 3) := dk_182 1 68 (dk_at dksX1_whole_3 0 rfl rfl)
theorem dX1_whole_73 : decode cX1_whole 73 = .ok (.iconst 1, 1) := dk_4 (dk_at dksX1_whole_3 3 rfl rfl)
theorem dX1_whole_74 : decode cX1_whole 74 = .ok (.if_icmp .ne 7, 3) := dk_160 0 7 (dk_at dksX1_whole_3 4 rfl rfl)
theorem dX1_whole_77 : decode cX1_whole 77 = .ok (.iconst 1, 1) := dk_4 (dk_at dksX1_whole_3 7 rfl rfl)
theorem dX1_whole_78 : decode cX1_whole 78 = .ok (.goto 4, 3) := dk_167 0 4 (dk_at dksX1_whole_3 8 rfl rfl)
theorem dX1_whole_81 : decode cX1_whole 81 = .ok (.iconst 0, 1) := dk_3 (dk_at dksX1_whole_3 11 rfl rfl)
theorem dX1_whole_82 : decode cX1_whole 82 = .ok (.ireturn, 1) := dk_172 (dk_at dksX1_whole_3 12 rfl rfl)
abbrev cX1_isCycle : ByteArray := prog_14_method_83_code
def yX1_isCycle : MethodName := ⟨RX1, "isCycle", "(I)Z"⟩
def dkwX1_isCycle_1 : List UInt8 := [154, 0, 7, 4, 167, 0, 4, 3, 61, 132, 3, 1, 167, 255, 224, 28, 172]
abbrev dktX1_isCycle_1 : List UInt8 := dkwX1_isCycle_1 ++ []
def dkwX1_isCycle_0 : List UInt8 := [4, 61, 3, 62, 29, 42, 180, 0, 7, 3, 46, 162, 0, 28, 28, 153, 0, 16, 42, 27, 29, 182, 1, 62]
abbrev dktX1_isCycle_0 : List UInt8 := dkwX1_isCycle_0 ++ dktX1_isCycle_1
theorem dksX1_isCycle_0 : cX1_isCycle.data.toList.drop 0 = dktX1_isCycle_0 := by decide +kernel
theorem dksX1_isCycle_1 : cX1_isCycle.data.toList.drop 24 = dktX1_isCycle_1 := dk_seg dksX1_isCycle_0 24 rfl rfl
theorem dX1_isCycle_0 : decode cX1_isCycle 0 = .ok (.iconst 1, 1) := dk_4 (dk_at dksX1_isCycle_0 0 rfl rfl)
theorem dX1_isCycle_1 : decode cX1_isCycle 1 = .ok (.istore_n 2, 1) := dk_61 (dk_at dksX1_isCycle_0 1 rfl rfl)
theorem dX1_isCycle_2 : decode cX1_isCycle 2 = .ok (.iconst 0, 1) := dk_3 (dk_at dksX1_isCycle_0 2 rfl rfl)
theorem dX1_isCycle_3 : decode cX1_isCycle 3 = .ok (.istore_n 3, 1) := dk_62 (dk_at dksX1_isCycle_0 3 rfl rfl)
theorem dX1_isCycle_4 : decode cX1_isCycle 4 = .ok (.iload_n 3, 1) := dk_29 (dk_at dksX1_isCycle_0 4 rfl rfl)
theorem dX1_isCycle_5 : decode cX1_isCycle 5 = .ok (.aload_n 0, 1) := dk_42 (dk_at dksX1_isCycle_0 5 rfl rfl)
theorem dX1_isCycle_6 : decode cX1_isCycle 6 = .ok (.getfield 7, 3) := dk_180 0 7 (dk_at dksX1_isCycle_0 6 rfl rfl)
theorem dX1_isCycle_9 : decode cX1_isCycle 9 = .ok (.iconst 0, 1) := dk_3 (dk_at dksX1_isCycle_0 9 rfl rfl)
theorem dX1_isCycle_10 : decode cX1_isCycle 10 = .ok (.iaload, 1) := dk_46 (dk_at dksX1_isCycle_0 10 rfl rfl)
theorem dX1_isCycle_11 : decode cX1_isCycle 11 = .ok (.if_icmp .ge 28, 3) := dk_162 0 28 (dk_at dksX1_isCycle_0 11 rfl rfl)
theorem dX1_isCycle_14 : decode cX1_isCycle 14 = .ok (.iload_n 2, 1) := dk_28 (dk_at dksX1_isCycle_0 14 rfl rfl)
theorem dX1_isCycle_15 : decode cX1_isCycle 15 = .ok (.ifCond .eq 16, 3) := dk_153 0 16 (dk_at dksX1_isCycle_0 15 rfl rfl)
theorem dX1_isCycle_18 : decode cX1_isCycle 18 = .ok (.aload_n 0, 1) := dk_42 (dk_at dksX1_isCycle_0 18 rfl rfl)
theorem dX1_isCycle_19 : decode cX1_isCycle 19 = .ok (.iload_n 1, 1) := dk_27 (dk_at dksX1_isCycle_0 19 rfl rfl)
theorem dX1_isCycle_20 : decode cX1_isCycle 20 = .ok (.iload_n 3, 1) := dk_29 (dk_at dksX1_isCycle_0 20 rfl rfl)
theorem dX1_isCycle_21 : decode cX1_isCycle 21 = .ok (.invokevirtual 318, 3) := dk_182 1 62 (dk_at dksX1_isCycle_0 21 rfl rfl)
theorem dX1_isCycle_24 : decode cX1_isCycle 24 = .ok (.ifCond .ne 7, 3) := dk_154 0 7 (dk_at dksX1_isCycle_1 0 rfl rfl)
theorem dX1_isCycle_27 : decode cX1_isCycle 27 = .ok (.iconst 1, 1) := dk_4 (dk_at dksX1_isCycle_1 3 rfl rfl)
theorem dX1_isCycle_28 : decode cX1_isCycle 28 = .ok (.goto 4, 3) := dk_167 0 4 (dk_at dksX1_isCycle_1 4 rfl rfl)
theorem dX1_isCycle_31 : decode cX1_isCycle 31 = .ok (.iconst 0, 1) := dk_3 (dk_at dksX1_isCycle_1 7 rfl rfl)
theorem dX1_isCycle_32 : decode cX1_isCycle 32 = .ok (.istore_n 2, 1) := dk_61 (dk_at dksX1_isCycle_1 8 rfl rfl)
theorem dX1_isCycle_33 : decode cX1_isCycle 33 = .ok (.iinc 3 1, 3) := dk_132 3 1 (dk_at dksX1_isCycle_1 9 rfl rfl)
theorem dX1_isCycle_36 : decode cX1_isCycle 36 = .ok (.goto (-32), 3) := dk_167 255 224 (dk_at dksX1_isCycle_1 12 rfl rfl)
theorem dX1_isCycle_39 : decode cX1_isCycle 39 = .ok (.iload_n 2, 1) := dk_28 (dk_at dksX1_isCycle_1 15 rfl rfl)
theorem dX1_isCycle_40 : decode cX1_isCycle 40 = .ok (.ireturn, 1) := dk_172 (dk_at dksX1_isCycle_1 16 rfl rfl)
abbrev cX1_order : ByteArray := prog_14_method_84_code
def yX1_order : MethodName := ⟨RX1, "order", "(I)I"⟩
def dkwX1_order_2 : List UInt8 := [182, 0, 121, 109, 136, 172]
abbrev dktX1_order_2 : List UInt8 := dkwX1_order_2 ++ []
def dkwX1_order_1 : List UInt8 := [164, 0, 7, 19, 1, 35, 172, 42, 5, 42, 5, 182, 0, 124, 28, 27, 182, 0, 121, 42, 5, 29, 28, 27]
abbrev dktX1_order_1 : List UInt8 := dkwX1_order_1 ++ dktX1_order_2
def dkwX1_order_0 : List UInt8 := [42, 5, 182, 1, 47, 61, 42, 5, 182, 0, 124, 16, 16, 128, 62, 42, 5, 29, 27, 182, 0, 127, 28]
abbrev dktX1_order_0 : List UInt8 := dkwX1_order_0 ++ dktX1_order_1
theorem dksX1_order_0 : cX1_order.data.toList.drop 0 = dktX1_order_0 := by decide +kernel
theorem dksX1_order_1 : cX1_order.data.toList.drop 23 = dktX1_order_1 := dk_seg dksX1_order_0 23 rfl rfl
theorem dksX1_order_2 : cX1_order.data.toList.drop 47 = dktX1_order_2 := dk_seg dksX1_order_1 24 rfl rfl
theorem dX1_order_0 : decode cX1_order 0 = .ok (.aload_n 0, 1) := dk_42 (dk_at dksX1_order_0 0 rfl rfl)
theorem dX1_order_1 : decode cX1_order 1 = .ok (.iconst 2, 1) := dk_5 (dk_at dksX1_order_0 1 rfl rfl)
theorem dX1_order_2 : decode cX1_order 2 = .ok (.invokevirtual 303, 3) := dk_182 1 47 (dk_at dksX1_order_0 2 rfl rfl)
theorem dX1_order_5 : decode cX1_order 5 = .ok (.istore_n 2, 1) := dk_61 (dk_at dksX1_order_0 5 rfl rfl)
theorem dX1_order_6 : decode cX1_order 6 = .ok (.aload_n 0, 1) := dk_42 (dk_at dksX1_order_0 6 rfl rfl)
theorem dX1_order_7 : decode cX1_order 7 = .ok (.iconst 2, 1) := dk_5 (dk_at dksX1_order_0 7 rfl rfl)
theorem dX1_order_8 : decode cX1_order 8 = .ok (.invokevirtual 124, 3) := dk_182 0 124 (dk_at dksX1_order_0 8 rfl rfl)
theorem dX1_order_11 : decode cX1_order 11 = .ok (.bipush 16, 2) := dk_16 16 (dk_at dksX1_order_0 11 rfl rfl)
theorem dX1_order_13 : decode cX1_order 13 = .ok (.ior, 1) := dk_128 (dk_at dksX1_order_0 13 rfl rfl)
theorem dX1_order_14 : decode cX1_order 14 = .ok (.istore_n 3, 1) := dk_62 (dk_at dksX1_order_0 14 rfl rfl)
theorem dX1_order_15 : decode cX1_order 15 = .ok (.aload_n 0, 1) := dk_42 (dk_at dksX1_order_0 15 rfl rfl)
theorem dX1_order_16 : decode cX1_order 16 = .ok (.iconst 2, 1) := dk_5 (dk_at dksX1_order_0 16 rfl rfl)
theorem dX1_order_17 : decode cX1_order 17 = .ok (.iload_n 3, 1) := dk_29 (dk_at dksX1_order_0 17 rfl rfl)
theorem dX1_order_18 : decode cX1_order 18 = .ok (.iload_n 1, 1) := dk_27 (dk_at dksX1_order_0 18 rfl rfl)
theorem dX1_order_19 : decode cX1_order 19 = .ok (.invokevirtual 127, 3) := dk_182 0 127 (dk_at dksX1_order_0 19 rfl rfl)
theorem dX1_order_22 : decode cX1_order 22 = .ok (.iload_n 2, 1) := dk_28 (dk_at dksX1_order_0 22 rfl rfl)
theorem dX1_order_23 : decode cX1_order 23 = .ok (.if_icmp .le 7, 3) := dk_164 0 7 (dk_at dksX1_order_1 0 rfl rfl)
theorem dX1_order_26 : decode cX1_order 26 = .ok (.ldc_w 291, 3) := dk_19 1 35 (dk_at dksX1_order_1 3 rfl rfl)
theorem dX1_order_29 : decode cX1_order 29 = .ok (.ireturn, 1) := dk_172 (dk_at dksX1_order_1 6 rfl rfl)
theorem dX1_order_30 : decode cX1_order 30 = .ok (.aload_n 0, 1) := dk_42 (dk_at dksX1_order_1 7 rfl rfl)
theorem dX1_order_31 : decode cX1_order 31 = .ok (.iconst 2, 1) := dk_5 (dk_at dksX1_order_1 8 rfl rfl)
theorem dX1_order_32 : decode cX1_order 32 = .ok (.aload_n 0, 1) := dk_42 (dk_at dksX1_order_1 9 rfl rfl)
theorem dX1_order_33 : decode cX1_order 33 = .ok (.iconst 2, 1) := dk_5 (dk_at dksX1_order_1 10 rfl rfl)
theorem dX1_order_34 : decode cX1_order 34 = .ok (.invokevirtual 124, 3) := dk_182 0 124 (dk_at dksX1_order_1 11 rfl rfl)
theorem dX1_order_37 : decode cX1_order 37 = .ok (.iload_n 2, 1) := dk_28 (dk_at dksX1_order_1 14 rfl rfl)
theorem dX1_order_38 : decode cX1_order 38 = .ok (.iload_n 1, 1) := dk_27 (dk_at dksX1_order_1 15 rfl rfl)
theorem dX1_order_39 : decode cX1_order 39 = .ok (.invokevirtual 121, 3) := dk_182 0 121 (dk_at dksX1_order_1 16 rfl rfl)
theorem dX1_order_42 : decode cX1_order 42 = .ok (.aload_n 0, 1) := dk_42 (dk_at dksX1_order_1 19 rfl rfl)
theorem dX1_order_43 : decode cX1_order 43 = .ok (.iconst 2, 1) := dk_5 (dk_at dksX1_order_1 20 rfl rfl)
theorem dX1_order_44 : decode cX1_order 44 = .ok (.iload_n 3, 1) := dk_29 (dk_at dksX1_order_1 21 rfl rfl)
theorem dX1_order_45 : decode cX1_order 45 = .ok (.iload_n 2, 1) := dk_28 (dk_at dksX1_order_1 22 rfl rfl)
theorem dX1_order_46 : decode cX1_order 46 = .ok (.iload_n 1, 1) := dk_27 (dk_at dksX1_order_1 23 rfl rfl)
theorem dX1_order_47 : decode cX1_order 47 = .ok (.invokevirtual 121, 3) := dk_182 0 121 (dk_at dksX1_order_2 0 rfl rfl)
theorem dX1_order_50 : decode cX1_order 50 = .ok (.ldiv, 1) := dk_109 (dk_at dksX1_order_2 3 rfl rfl)
theorem dX1_order_51 : decode cX1_order 51 = .ok (.l2i, 1) := dk_136 (dk_at dksX1_order_2 4 rfl rfl)
theorem dX1_order_52 : decode cX1_order 52 = .ok (.ireturn, 1) := dk_172 (dk_at dksX1_order_2 5 rfl rfl)
abbrev cX1_part : ByteArray := prog_14_method_95_code
def yX1_part : MethodName := ⟨RX1, "part", "(IIII)J"⟩
def dkwX1_part_2 : List UInt8 := [182, 1, 104, 21, 4, 154, 0, 12, 42, 180, 0, 36, 29, 47, 167, 0, 9, 42, 180, 0, 39, 29, 47, 173]
abbrev dktX1_part_2 : List UInt8 := dkwX1_part_2 ++ []
def dkwX1_part_1 : List UInt8 := [182, 0, 247, 153, 0, 14, 21, 4, 133, 9, 10, 184, 0, 150, 154, 0, 7, 20, 1, 102, 173, 42, 27, 28]
abbrev dktX1_part_1 : List UInt8 := dkwX1_part_1 ++ dktX1_part_2
def dkwX1_part_0 : List UInt8 := [42, 27, 182, 1, 10, 153, 0, 35, 28, 133, 9, 20, 0, 242, 184, 0, 150, 153, 0, 23, 42, 4, 29]
abbrev dktX1_part_0 : List UInt8 := dkwX1_part_0 ++ dktX1_part_1
theorem dksX1_part_0 : cX1_part.data.toList.drop 0 = dktX1_part_0 := by decide +kernel
theorem dksX1_part_1 : cX1_part.data.toList.drop 23 = dktX1_part_1 := dk_seg dksX1_part_0 23 rfl rfl
theorem dksX1_part_2 : cX1_part.data.toList.drop 47 = dktX1_part_2 := dk_seg dksX1_part_1 24 rfl rfl
theorem dX1_part_0 : decode cX1_part 0 = .ok (.aload_n 0, 1) := dk_42 (dk_at dksX1_part_0 0 rfl rfl)
theorem dX1_part_1 : decode cX1_part 1 = .ok (.iload_n 1, 1) := dk_27 (dk_at dksX1_part_0 1 rfl rfl)
theorem dX1_part_2 : decode cX1_part 2 = .ok (.invokevirtual 266, 3) := dk_182 1 10 (dk_at dksX1_part_0 2 rfl rfl)
theorem dX1_part_5 : decode cX1_part 5 = .ok (.ifCond .eq 35, 3) := dk_153 0 35 (dk_at dksX1_part_0 5 rfl rfl)
theorem dX1_part_8 : decode cX1_part 8 = .ok (.iload_n 2, 1) := dk_28 (dk_at dksX1_part_0 8 rfl rfl)
theorem dX1_part_9 : decode cX1_part 9 = .ok (.i2l, 1) := dk_133 (dk_at dksX1_part_0 9 rfl rfl)
theorem dX1_part_10 : decode cX1_part 10 = .ok (.lconst 0, 1) := dk_9 (dk_at dksX1_part_0 10 rfl rfl)
theorem dX1_part_11 : decode cX1_part 11 = .ok (.ldc2_w 242, 3) := dk_20 0 242 (dk_at dksX1_part_0 11 rfl rfl)
theorem dX1_part_14 : decode cX1_part 14 = .ok (.invokestatic 150, 3) := dk_184 0 150 (dk_at dksX1_part_0 14 rfl rfl)
theorem dX1_part_17 : decode cX1_part 17 = .ok (.ifCond .eq 23, 3) := dk_153 0 23 (dk_at dksX1_part_0 17 rfl rfl)
theorem dX1_part_20 : decode cX1_part 20 = .ok (.aload_n 0, 1) := dk_42 (dk_at dksX1_part_0 20 rfl rfl)
theorem dX1_part_21 : decode cX1_part 21 = .ok (.iconst 1, 1) := dk_4 (dk_at dksX1_part_0 21 rfl rfl)
theorem dX1_part_22 : decode cX1_part 22 = .ok (.iload_n 3, 1) := dk_29 (dk_at dksX1_part_0 22 rfl rfl)
theorem dX1_part_23 : decode cX1_part 23 = .ok (.invokevirtual 247, 3) := dk_182 0 247 (dk_at dksX1_part_1 0 rfl rfl)
theorem dX1_part_26 : decode cX1_part 26 = .ok (.ifCond .eq 14, 3) := dk_153 0 14 (dk_at dksX1_part_1 3 rfl rfl)
theorem dX1_part_29 : decode cX1_part 29 = .ok (.iload 4, 2) := dk_21 4 (dk_at dksX1_part_1 6 rfl rfl)
theorem dX1_part_31 : decode cX1_part 31 = .ok (.i2l, 1) := dk_133 (dk_at dksX1_part_1 8 rfl rfl)
theorem dX1_part_32 : decode cX1_part 32 = .ok (.lconst 0, 1) := dk_9 (dk_at dksX1_part_1 9 rfl rfl)
theorem dX1_part_33 : decode cX1_part 33 = .ok (.lconst 1, 1) := dk_10 (dk_at dksX1_part_1 10 rfl rfl)
theorem dX1_part_34 : decode cX1_part 34 = .ok (.invokestatic 150, 3) := dk_184 0 150 (dk_at dksX1_part_1 11 rfl rfl)
theorem dX1_part_37 : decode cX1_part 37 = .ok (.ifCond .ne 7, 3) := dk_154 0 7 (dk_at dksX1_part_1 14 rfl rfl)
theorem dX1_part_40 : decode cX1_part 40 = .ok (.ldc2_w 358, 3) := dk_20 1 102 (dk_at dksX1_part_1 17 rfl rfl)
theorem dX1_part_43 : decode cX1_part 43 = .ok (.lreturn, 1) := dk_173 (dk_at dksX1_part_1 20 rfl rfl)
theorem dX1_part_44 : decode cX1_part 44 = .ok (.aload_n 0, 1) := dk_42 (dk_at dksX1_part_1 21 rfl rfl)
theorem dX1_part_45 : decode cX1_part 45 = .ok (.iload_n 1, 1) := dk_27 (dk_at dksX1_part_1 22 rfl rfl)
theorem dX1_part_46 : decode cX1_part 46 = .ok (.iload_n 2, 1) := dk_28 (dk_at dksX1_part_1 23 rfl rfl)
theorem dX1_part_47 : decode cX1_part 47 = .ok (.invokevirtual 360, 3) := dk_182 1 104 (dk_at dksX1_part_2 0 rfl rfl)
theorem dX1_part_50 : decode cX1_part 50 = .ok (.iload 4, 2) := dk_21 4 (dk_at dksX1_part_2 3 rfl rfl)
theorem dX1_part_52 : decode cX1_part 52 = .ok (.ifCond .ne 12, 3) := dk_154 0 12 (dk_at dksX1_part_2 5 rfl rfl)
theorem dX1_part_55 : decode cX1_part 55 = .ok (.aload_n 0, 1) := dk_42 (dk_at dksX1_part_2 8 rfl rfl)
theorem dX1_part_56 : decode cX1_part 56 = .ok (.getfield 36, 3) := dk_180 0 36 (dk_at dksX1_part_2 9 rfl rfl)
theorem dX1_part_59 : decode cX1_part 59 = .ok (.iload_n 3, 1) := dk_29 (dk_at dksX1_part_2 12 rfl rfl)
theorem dX1_part_60 : decode cX1_part 60 = .ok (.laload, 1) := dk_47 (dk_at dksX1_part_2 13 rfl rfl)
theorem dX1_part_61 : decode cX1_part 61 = .ok (.goto 9, 3) := dk_167 0 9 (dk_at dksX1_part_2 14 rfl rfl)
theorem dX1_part_64 : decode cX1_part 64 = .ok (.aload_n 0, 1) := dk_42 (dk_at dksX1_part_2 17 rfl rfl)
theorem dX1_part_65 : decode cX1_part 65 = .ok (.getfield 39, 3) := dk_180 0 39 (dk_at dksX1_part_2 18 rfl rfl)
theorem dX1_part_68 : decode cX1_part 68 = .ok (.iload_n 3, 1) := dk_29 (dk_at dksX1_part_2 21 rfl rfl)
theorem dX1_part_69 : decode cX1_part 69 = .ok (.laload, 1) := dk_47 (dk_at dksX1_part_2 22 rfl rfl)
theorem dX1_part_70 : decode cX1_part 70 = .ok (.lreturn, 1) := dk_173 (dk_at dksX1_part_2 23 rfl rfl)
abbrev cX1_laysPart : ByteArray := prog_14_method_94_code
def yX1_laysPart : MethodName := ⟨RX1, "laysPart", "(II)V"⟩
def dkwX1_laysPart_6 : List UInt8 := [47, 105, 101, 22, 4, 182, 1, 95, 132, 3, 1, 167, 255, 175, 177]
abbrev dktX1_laysPart_6 : List UInt8 := dkwX1_laysPart_6 ++ []
def dkwX1_laysPart_5 : List UInt8 := [180, 0, 42, 29, 47, 42, 180, 0, 39, 29, 47, 105, 101, 42, 180, 0, 36, 29, 47, 42, 180, 0, 45, 29]
abbrev dktX1_laysPart_5 : List UInt8 := dkwX1_laysPart_5 ++ dktX1_laysPart_6
def dkwX1_laysPart_4 : List UInt8 := [55, 4, 42, 29, 42, 180, 0, 7, 16, 45, 16, 6, 27, 104, 96, 29, 96, 46, 133, 22, 4, 105, 42]
abbrev dktX1_laysPart_4 : List UInt8 := dkwX1_laysPart_4 ++ dktX1_laysPart_5
def dkwX1_laysPart_3 : List UInt8 := [62, 29, 42, 180, 0, 7, 4, 46, 162, 0, 77, 42, 180, 0, 45, 29, 47, 42, 180, 0, 39, 29, 47, 105]
abbrev dktX1_laysPart_3 : List UInt8 := dkwX1_laysPart_3 ++ dktX1_laysPart_4
def dkwX1_laysPart_2 : List UInt8 := [180, 0, 45, 29, 42, 180, 0, 39, 29, 47, 80, 132, 3, 1, 167, 255, 219, 42, 4, 27, 182, 1, 99, 3]
abbrev dktX1_laysPart_2 : List UInt8 := dkwX1_laysPart_2 ++ dktX1_laysPart_3
def dkwX1_laysPart_1 : List UInt8 := [42, 180, 0, 7, 4, 46, 162, 0, 33, 42, 180, 0, 42, 29, 42, 180, 0, 36, 29, 47, 80, 42]
abbrev dktX1_laysPart_1 : List UInt8 := dkwX1_laysPart_1 ++ dktX1_laysPart_2
def dkwX1_laysPart_0 : List UInt8 := [42, 28, 4, 160, 0, 7, 4, 167, 0, 4, 5, 27, 182, 1, 99, 28, 5, 162, 0, 4, 177, 3, 62, 29]
abbrev dktX1_laysPart_0 : List UInt8 := dkwX1_laysPart_0 ++ dktX1_laysPart_1
theorem dksX1_laysPart_0 : cX1_laysPart.data.toList.drop 0 = dktX1_laysPart_0 := by decide +kernel
theorem dksX1_laysPart_1 : cX1_laysPart.data.toList.drop 24 = dktX1_laysPart_1 := dk_seg dksX1_laysPart_0 24 rfl rfl
theorem dksX1_laysPart_2 : cX1_laysPart.data.toList.drop 46 = dktX1_laysPart_2 := dk_seg dksX1_laysPart_1 22 rfl rfl
theorem dksX1_laysPart_3 : cX1_laysPart.data.toList.drop 70 = dktX1_laysPart_3 := dk_seg dksX1_laysPart_2 24 rfl rfl
theorem dksX1_laysPart_4 : cX1_laysPart.data.toList.drop 94 = dktX1_laysPart_4 := dk_seg dksX1_laysPart_3 24 rfl rfl
theorem dksX1_laysPart_5 : cX1_laysPart.data.toList.drop 117 = dktX1_laysPart_5 := dk_seg dksX1_laysPart_4 23 rfl rfl
theorem dksX1_laysPart_6 : cX1_laysPart.data.toList.drop 141 = dktX1_laysPart_6 := dk_seg dksX1_laysPart_5 24 rfl rfl
theorem dX1_laysPart_0 : decode cX1_laysPart 0 = .ok (.aload_n 0, 1) := dk_42 (dk_at dksX1_laysPart_0 0 rfl rfl)
theorem dX1_laysPart_1 : decode cX1_laysPart 1 = .ok (.iload_n 2, 1) := dk_28 (dk_at dksX1_laysPart_0 1 rfl rfl)
theorem dX1_laysPart_2 : decode cX1_laysPart 2 = .ok (.iconst 1, 1) := dk_4 (dk_at dksX1_laysPart_0 2 rfl rfl)
theorem dX1_laysPart_3 : decode cX1_laysPart 3 = .ok (.if_icmp .ne 7, 3) := dk_160 0 7 (dk_at dksX1_laysPart_0 3 rfl rfl)
theorem dX1_laysPart_6 : decode cX1_laysPart 6 = .ok (.iconst 1, 1) := dk_4 (dk_at dksX1_laysPart_0 6 rfl rfl)
theorem dX1_laysPart_7 : decode cX1_laysPart 7 = .ok (.goto 4, 3) := dk_167 0 4 (dk_at dksX1_laysPart_0 7 rfl rfl)
theorem dX1_laysPart_10 : decode cX1_laysPart 10 = .ok (.iconst 2, 1) := dk_5 (dk_at dksX1_laysPart_0 10 rfl rfl)
theorem dX1_laysPart_11 : decode cX1_laysPart 11 = .ok (.iload_n 1, 1) := dk_27 (dk_at dksX1_laysPart_0 11 rfl rfl)
theorem dX1_laysPart_12 : decode cX1_laysPart 12 = .ok (.invokevirtual 355, 3) := dk_182 1 99 (dk_at dksX1_laysPart_0 12 rfl rfl)
theorem dX1_laysPart_15 : decode cX1_laysPart 15 = .ok (.iload_n 2, 1) := dk_28 (dk_at dksX1_laysPart_0 15 rfl rfl)
theorem dX1_laysPart_16 : decode cX1_laysPart 16 = .ok (.iconst 2, 1) := dk_5 (dk_at dksX1_laysPart_0 16 rfl rfl)
theorem dX1_laysPart_17 : decode cX1_laysPart 17 = .ok (.if_icmp .ge 4, 3) := dk_162 0 4 (dk_at dksX1_laysPart_0 17 rfl rfl)
theorem dX1_laysPart_20 : decode cX1_laysPart 20 = .ok (.return_, 1) := dk_177 (dk_at dksX1_laysPart_0 20 rfl rfl)
theorem dX1_laysPart_21 : decode cX1_laysPart 21 = .ok (.iconst 0, 1) := dk_3 (dk_at dksX1_laysPart_0 21 rfl rfl)
theorem dX1_laysPart_22 : decode cX1_laysPart 22 = .ok (.istore_n 3, 1) := dk_62 (dk_at dksX1_laysPart_0 22 rfl rfl)
theorem dX1_laysPart_23 : decode cX1_laysPart 23 = .ok (.iload_n 3, 1) := dk_29 (dk_at dksX1_laysPart_0 23 rfl rfl)
theorem dX1_laysPart_24 : decode cX1_laysPart 24 = .ok (.aload_n 0, 1) := dk_42 (dk_at dksX1_laysPart_1 0 rfl rfl)
theorem dX1_laysPart_25 : decode cX1_laysPart 25 = .ok (.getfield 7, 3) := dk_180 0 7 (dk_at dksX1_laysPart_1 1 rfl rfl)
theorem dX1_laysPart_28 : decode cX1_laysPart 28 = .ok (.iconst 1, 1) := dk_4 (dk_at dksX1_laysPart_1 4 rfl rfl)
theorem dX1_laysPart_29 : decode cX1_laysPart 29 = .ok (.iaload, 1) := dk_46 (dk_at dksX1_laysPart_1 5 rfl rfl)
theorem dX1_laysPart_30 : decode cX1_laysPart 30 = .ok (.if_icmp .ge 33, 3) := dk_162 0 33 (dk_at dksX1_laysPart_1 6 rfl rfl)
theorem dX1_laysPart_33 : decode cX1_laysPart 33 = .ok (.aload_n 0, 1) := dk_42 (dk_at dksX1_laysPart_1 9 rfl rfl)
theorem dX1_laysPart_34 : decode cX1_laysPart 34 = .ok (.getfield 42, 3) := dk_180 0 42 (dk_at dksX1_laysPart_1 10 rfl rfl)
theorem dX1_laysPart_37 : decode cX1_laysPart 37 = .ok (.iload_n 3, 1) := dk_29 (dk_at dksX1_laysPart_1 13 rfl rfl)
theorem dX1_laysPart_38 : decode cX1_laysPart 38 = .ok (.aload_n 0, 1) := dk_42 (dk_at dksX1_laysPart_1 14 rfl rfl)
theorem dX1_laysPart_39 : decode cX1_laysPart 39 = .ok (.getfield 36, 3) := dk_180 0 36 (dk_at dksX1_laysPart_1 15 rfl rfl)
theorem dX1_laysPart_42 : decode cX1_laysPart 42 = .ok (.iload_n 3, 1) := dk_29 (dk_at dksX1_laysPart_1 18 rfl rfl)
theorem dX1_laysPart_43 : decode cX1_laysPart 43 = .ok (.laload, 1) := dk_47 (dk_at dksX1_laysPart_1 19 rfl rfl)
theorem dX1_laysPart_44 : decode cX1_laysPart 44 = .ok (.lastore, 1) := dk_80 (dk_at dksX1_laysPart_1 20 rfl rfl)
theorem dX1_laysPart_45 : decode cX1_laysPart 45 = .ok (.aload_n 0, 1) := dk_42 (dk_at dksX1_laysPart_1 21 rfl rfl)
theorem dX1_laysPart_46 : decode cX1_laysPart 46 = .ok (.getfield 45, 3) := dk_180 0 45 (dk_at dksX1_laysPart_2 0 rfl rfl)
theorem dX1_laysPart_49 : decode cX1_laysPart 49 = .ok (.iload_n 3, 1) := dk_29 (dk_at dksX1_laysPart_2 3 rfl rfl)
theorem dX1_laysPart_50 : decode cX1_laysPart 50 = .ok (.aload_n 0, 1) := dk_42 (dk_at dksX1_laysPart_2 4 rfl rfl)
theorem dX1_laysPart_51 : decode cX1_laysPart 51 = .ok (.getfield 39, 3) := dk_180 0 39 (dk_at dksX1_laysPart_2 5 rfl rfl)
theorem dX1_laysPart_54 : decode cX1_laysPart 54 = .ok (.iload_n 3, 1) := dk_29 (dk_at dksX1_laysPart_2 8 rfl rfl)
theorem dX1_laysPart_55 : decode cX1_laysPart 55 = .ok (.laload, 1) := dk_47 (dk_at dksX1_laysPart_2 9 rfl rfl)
theorem dX1_laysPart_56 : decode cX1_laysPart 56 = .ok (.lastore, 1) := dk_80 (dk_at dksX1_laysPart_2 10 rfl rfl)
theorem dX1_laysPart_57 : decode cX1_laysPart 57 = .ok (.iinc 3 1, 3) := dk_132 3 1 (dk_at dksX1_laysPart_2 11 rfl rfl)
theorem dX1_laysPart_60 : decode cX1_laysPart 60 = .ok (.goto (-37), 3) := dk_167 255 219 (dk_at dksX1_laysPart_2 14 rfl rfl)
theorem dX1_laysPart_63 : decode cX1_laysPart 63 = .ok (.aload_n 0, 1) := dk_42 (dk_at dksX1_laysPart_2 17 rfl rfl)
theorem dX1_laysPart_64 : decode cX1_laysPart 64 = .ok (.iconst 1, 1) := dk_4 (dk_at dksX1_laysPart_2 18 rfl rfl)
theorem dX1_laysPart_65 : decode cX1_laysPart 65 = .ok (.iload_n 1, 1) := dk_27 (dk_at dksX1_laysPart_2 19 rfl rfl)
theorem dX1_laysPart_66 : decode cX1_laysPart 66 = .ok (.invokevirtual 355, 3) := dk_182 1 99 (dk_at dksX1_laysPart_2 20 rfl rfl)
theorem dX1_laysPart_69 : decode cX1_laysPart 69 = .ok (.iconst 0, 1) := dk_3 (dk_at dksX1_laysPart_2 23 rfl rfl)
theorem dX1_laysPart_70 : decode cX1_laysPart 70 = .ok (.istore_n 3, 1) := dk_62 (dk_at dksX1_laysPart_3 0 rfl rfl)
theorem dX1_laysPart_71 : decode cX1_laysPart 71 = .ok (.iload_n 3, 1) := dk_29 (dk_at dksX1_laysPart_3 1 rfl rfl)
theorem dX1_laysPart_72 : decode cX1_laysPart 72 = .ok (.aload_n 0, 1) := dk_42 (dk_at dksX1_laysPart_3 2 rfl rfl)
theorem dX1_laysPart_73 : decode cX1_laysPart 73 = .ok (.getfield 7, 3) := dk_180 0 7 (dk_at dksX1_laysPart_3 3 rfl rfl)
theorem dX1_laysPart_76 : decode cX1_laysPart 76 = .ok (.iconst 1, 1) := dk_4 (dk_at dksX1_laysPart_3 6 rfl rfl)
theorem dX1_laysPart_77 : decode cX1_laysPart 77 = .ok (.iaload, 1) := dk_46 (dk_at dksX1_laysPart_3 7 rfl rfl)
theorem dX1_laysPart_78 : decode cX1_laysPart 78 = .ok (.if_icmp .ge 77, 3) := dk_162 0 77 (dk_at dksX1_laysPart_3 8 rfl rfl)
theorem dX1_laysPart_81 : decode cX1_laysPart 81 = .ok (.aload_n 0, 1) := dk_42 (dk_at dksX1_laysPart_3 11 rfl rfl)
theorem dX1_laysPart_82 : decode cX1_laysPart 82 = .ok (.getfield 45, 3) := dk_180 0 45 (dk_at dksX1_laysPart_3 12 rfl rfl)
theorem dX1_laysPart_85 : decode cX1_laysPart 85 = .ok (.iload_n 3, 1) := dk_29 (dk_at dksX1_laysPart_3 15 rfl rfl)
theorem dX1_laysPart_86 : decode cX1_laysPart 86 = .ok (.laload, 1) := dk_47 (dk_at dksX1_laysPart_3 16 rfl rfl)
theorem dX1_laysPart_87 : decode cX1_laysPart 87 = .ok (.aload_n 0, 1) := dk_42 (dk_at dksX1_laysPart_3 17 rfl rfl)
theorem dX1_laysPart_88 : decode cX1_laysPart 88 = .ok (.getfield 39, 3) := dk_180 0 39 (dk_at dksX1_laysPart_3 18 rfl rfl)
theorem dX1_laysPart_91 : decode cX1_laysPart 91 = .ok (.iload_n 3, 1) := dk_29 (dk_at dksX1_laysPart_3 21 rfl rfl)
theorem dX1_laysPart_92 : decode cX1_laysPart 92 = .ok (.laload, 1) := dk_47 (dk_at dksX1_laysPart_3 22 rfl rfl)
theorem dX1_laysPart_93 : decode cX1_laysPart 93 = .ok (.lmul, 1) := dk_105 (dk_at dksX1_laysPart_3 23 rfl rfl)
theorem dX1_laysPart_94 : decode cX1_laysPart 94 = .ok (.lstore 4, 2) := dk_55 4 (dk_at dksX1_laysPart_4 0 rfl rfl)
theorem dX1_laysPart_96 : decode cX1_laysPart 96 = .ok (.aload_n 0, 1) := dk_42 (dk_at dksX1_laysPart_4 2 rfl rfl)
theorem dX1_laysPart_97 : decode cX1_laysPart 97 = .ok (.iload_n 3, 1) := dk_29 (dk_at dksX1_laysPart_4 3 rfl rfl)
theorem dX1_laysPart_98 : decode cX1_laysPart 98 = .ok (.aload_n 0, 1) := dk_42 (dk_at dksX1_laysPart_4 4 rfl rfl)
theorem dX1_laysPart_99 : decode cX1_laysPart 99 = .ok (.getfield 7, 3) := dk_180 0 7 (dk_at dksX1_laysPart_4 5 rfl rfl)
theorem dX1_laysPart_102 : decode cX1_laysPart 102 = .ok (.bipush 45, 2) := dk_16 45 (dk_at dksX1_laysPart_4 8 rfl rfl)
theorem dX1_laysPart_104 : decode cX1_laysPart 104 = .ok (.bipush 6, 2) := dk_16 6 (dk_at dksX1_laysPart_4 10 rfl rfl)
theorem dX1_laysPart_106 : decode cX1_laysPart 106 = .ok (.iload_n 1, 1) := dk_27 (dk_at dksX1_laysPart_4 12 rfl rfl)
theorem dX1_laysPart_107 : decode cX1_laysPart 107 = .ok (.imul, 1) := dk_104 (dk_at dksX1_laysPart_4 13 rfl rfl)
theorem dX1_laysPart_108 : decode cX1_laysPart 108 = .ok (.iadd, 1) := dk_96 (dk_at dksX1_laysPart_4 14 rfl rfl)
theorem dX1_laysPart_109 : decode cX1_laysPart 109 = .ok (.iload_n 3, 1) := dk_29 (dk_at dksX1_laysPart_4 15 rfl rfl)
theorem dX1_laysPart_110 : decode cX1_laysPart 110 = .ok (.iadd, 1) := dk_96 (dk_at dksX1_laysPart_4 16 rfl rfl)
theorem dX1_laysPart_111 : decode cX1_laysPart 111 = .ok (.iaload, 1) := dk_46 (dk_at dksX1_laysPart_4 17 rfl rfl)
theorem dX1_laysPart_112 : decode cX1_laysPart 112 = .ok (.i2l, 1) := dk_133 (dk_at dksX1_laysPart_4 18 rfl rfl)
theorem dX1_laysPart_113 : decode cX1_laysPart 113 = .ok (.lload 4, 2) := dk_22 4 (dk_at dksX1_laysPart_4 19 rfl rfl)
theorem dX1_laysPart_115 : decode cX1_laysPart 115 = .ok (.lmul, 1) := dk_105 (dk_at dksX1_laysPart_4 21 rfl rfl)
theorem dX1_laysPart_116 : decode cX1_laysPart 116 = .ok (.aload_n 0, 1) := dk_42 (dk_at dksX1_laysPart_4 22 rfl rfl)
theorem dX1_laysPart_117 : decode cX1_laysPart 117 = .ok (.getfield 42, 3) := dk_180 0 42 (dk_at dksX1_laysPart_5 0 rfl rfl)
theorem dX1_laysPart_120 : decode cX1_laysPart 120 = .ok (.iload_n 3, 1) := dk_29 (dk_at dksX1_laysPart_5 3 rfl rfl)
theorem dX1_laysPart_121 : decode cX1_laysPart 121 = .ok (.laload, 1) := dk_47 (dk_at dksX1_laysPart_5 4 rfl rfl)
theorem dX1_laysPart_122 : decode cX1_laysPart 122 = .ok (.aload_n 0, 1) := dk_42 (dk_at dksX1_laysPart_5 5 rfl rfl)
theorem dX1_laysPart_123 : decode cX1_laysPart 123 = .ok (.getfield 39, 3) := dk_180 0 39 (dk_at dksX1_laysPart_5 6 rfl rfl)
theorem dX1_laysPart_126 : decode cX1_laysPart 126 = .ok (.iload_n 3, 1) := dk_29 (dk_at dksX1_laysPart_5 9 rfl rfl)
theorem dX1_laysPart_127 : decode cX1_laysPart 127 = .ok (.laload, 1) := dk_47 (dk_at dksX1_laysPart_5 10 rfl rfl)
theorem dX1_laysPart_128 : decode cX1_laysPart 128 = .ok (.lmul, 1) := dk_105 (dk_at dksX1_laysPart_5 11 rfl rfl)
theorem dX1_laysPart_129 : decode cX1_laysPart 129 = .ok (.lsub, 1) := dk_101 (dk_at dksX1_laysPart_5 12 rfl rfl)
theorem dX1_laysPart_130 : decode cX1_laysPart 130 = .ok (.aload_n 0, 1) := dk_42 (dk_at dksX1_laysPart_5 13 rfl rfl)
theorem dX1_laysPart_131 : decode cX1_laysPart 131 = .ok (.getfield 36, 3) := dk_180 0 36 (dk_at dksX1_laysPart_5 14 rfl rfl)
theorem dX1_laysPart_134 : decode cX1_laysPart 134 = .ok (.iload_n 3, 1) := dk_29 (dk_at dksX1_laysPart_5 17 rfl rfl)
theorem dX1_laysPart_135 : decode cX1_laysPart 135 = .ok (.laload, 1) := dk_47 (dk_at dksX1_laysPart_5 18 rfl rfl)
theorem dX1_laysPart_136 : decode cX1_laysPart 136 = .ok (.aload_n 0, 1) := dk_42 (dk_at dksX1_laysPart_5 19 rfl rfl)
theorem dX1_laysPart_137 : decode cX1_laysPart 137 = .ok (.getfield 45, 3) := dk_180 0 45 (dk_at dksX1_laysPart_5 20 rfl rfl)
theorem dX1_laysPart_140 : decode cX1_laysPart 140 = .ok (.iload_n 3, 1) := dk_29 (dk_at dksX1_laysPart_5 23 rfl rfl)
theorem dX1_laysPart_141 : decode cX1_laysPart 141 = .ok (.laload, 1) := dk_47 (dk_at dksX1_laysPart_6 0 rfl rfl)
theorem dX1_laysPart_142 : decode cX1_laysPart 142 = .ok (.lmul, 1) := dk_105 (dk_at dksX1_laysPart_6 1 rfl rfl)
theorem dX1_laysPart_143 : decode cX1_laysPart 143 = .ok (.lsub, 1) := dk_101 (dk_at dksX1_laysPart_6 2 rfl rfl)
theorem dX1_laysPart_144 : decode cX1_laysPart 144 = .ok (.lload 4, 2) := dk_22 4 (dk_at dksX1_laysPart_6 3 rfl rfl)
theorem dX1_laysPart_146 : decode cX1_laysPart 146 = .ok (.invokevirtual 351, 3) := dk_182 1 95 (dk_at dksX1_laysPart_6 5 rfl rfl)
theorem dX1_laysPart_149 : decode cX1_laysPart 149 = .ok (.iinc 3 1, 3) := dk_132 3 1 (dk_at dksX1_laysPart_6 8 rfl rfl)
theorem dX1_laysPart_152 : decode cX1_laysPart 152 = .ok (.goto (-81), 3) := dk_167 255 175 (dk_at dksX1_laysPart_6 11 rfl rfl)
theorem dX1_laysPart_155 : decode cX1_laysPart 155 = .ok (.return_, 1) := dk_177 (dk_at dksX1_laysPart_6 14 rfl rfl)
abbrev cX1_spans : ByteArray := prog_14_method_93_code
def yX1_spans : MethodName := ⟨RX1, "spans", "(II)V"⟩
def dkwX1_spans_5 : List UInt8 := [180, 1, 81, 182, 1, 95, 132, 4, 1, 167, 255, 146, 177]
abbrev dktX1_spans_5 : List UInt8 := dkwX1_spans_5 ++ []
def dkwX1_spans_4 : List UInt8 := [180, 0, 33, 21, 7, 47, 105, 97, 55, 5, 132, 7, 1, 167, 255, 181, 42, 21, 4, 22, 5, 42]
abbrev dktX1_spans_4 : List UInt8 := dkwX1_spans_4 ++ dktX1_spans_5
def dkwX1_spans_3 : List UInt8 := [167, 0, 16, 42, 21, 4, 29, 21, 7, 184, 0, 102, 182, 0, 71, 133, 55, 8, 22, 5, 22, 8, 42]
abbrev dktX1_spans_3 : List UInt8 := dkwX1_spans_3 ++ dktX1_spans_4
def dkwX1_spans_2 : List UInt8 := [180, 0, 7, 4, 21, 4, 184, 0, 81, 133, 42, 29, 21, 7, 184, 0, 102, 21, 4, 182, 0, 67, 133, 105]
abbrev dktX1_spans_2 : List UInt8 := dkwX1_spans_2 ++ dktX1_spans_3
def dkwX1_spans_1 : List UInt8 := [162, 0, 105, 9, 55, 5, 3, 54, 7, 21, 7, 29, 184, 0, 99, 162, 0, 72, 27, 4, 160, 0, 31, 42]
abbrev dktX1_spans_1 : List UInt8 := dkwX1_spans_1 ++ dktX1_spans_2
def dkwX1_spans_0 : List UInt8 := [42, 27, 182, 1, 88, 62, 42, 27, 29, 28, 182, 1, 91, 3, 54, 4, 21, 4, 42, 180, 0, 7, 4, 46]
abbrev dktX1_spans_0 : List UInt8 := dkwX1_spans_0 ++ dktX1_spans_1
theorem dksX1_spans_0 : cX1_spans.data.toList.drop 0 = dktX1_spans_0 := by decide +kernel
theorem dksX1_spans_1 : cX1_spans.data.toList.drop 24 = dktX1_spans_1 := dk_seg dksX1_spans_0 24 rfl rfl
theorem dksX1_spans_2 : cX1_spans.data.toList.drop 48 = dktX1_spans_2 := dk_seg dksX1_spans_1 24 rfl rfl
theorem dksX1_spans_3 : cX1_spans.data.toList.drop 72 = dktX1_spans_3 := dk_seg dksX1_spans_2 24 rfl rfl
theorem dksX1_spans_4 : cX1_spans.data.toList.drop 95 = dktX1_spans_4 := dk_seg dksX1_spans_3 23 rfl rfl
theorem dksX1_spans_5 : cX1_spans.data.toList.drop 117 = dktX1_spans_5 := dk_seg dksX1_spans_4 22 rfl rfl
theorem dX1_spans_0 : decode cX1_spans 0 = .ok (.aload_n 0, 1) := dk_42 (dk_at dksX1_spans_0 0 rfl rfl)
theorem dX1_spans_1 : decode cX1_spans 1 = .ok (.iload_n 1, 1) := dk_27 (dk_at dksX1_spans_0 1 rfl rfl)
theorem dX1_spans_2 : decode cX1_spans 2 = .ok (.invokevirtual 344, 3) := dk_182 1 88 (dk_at dksX1_spans_0 2 rfl rfl)
theorem dX1_spans_5 : decode cX1_spans 5 = .ok (.istore_n 3, 1) := dk_62 (dk_at dksX1_spans_0 5 rfl rfl)
theorem dX1_spans_6 : decode cX1_spans 6 = .ok (.aload_n 0, 1) := dk_42 (dk_at dksX1_spans_0 6 rfl rfl)
theorem dX1_spans_7 : decode cX1_spans 7 = .ok (.iload_n 1, 1) := dk_27 (dk_at dksX1_spans_0 7 rfl rfl)
theorem dX1_spans_8 : decode cX1_spans 8 = .ok (.iload_n 3, 1) := dk_29 (dk_at dksX1_spans_0 8 rfl rfl)
theorem dX1_spans_9 : decode cX1_spans 9 = .ok (.iload_n 2, 1) := dk_28 (dk_at dksX1_spans_0 9 rfl rfl)
theorem dX1_spans_10 : decode cX1_spans 10 = .ok (.invokevirtual 347, 3) := dk_182 1 91 (dk_at dksX1_spans_0 10 rfl rfl)
theorem dX1_spans_13 : decode cX1_spans 13 = .ok (.iconst 0, 1) := dk_3 (dk_at dksX1_spans_0 13 rfl rfl)
theorem dX1_spans_14 : decode cX1_spans 14 = .ok (.istore 4, 2) := dk_54 4 (dk_at dksX1_spans_0 14 rfl rfl)
theorem dX1_spans_16 : decode cX1_spans 16 = .ok (.iload 4, 2) := dk_21 4 (dk_at dksX1_spans_0 16 rfl rfl)
theorem dX1_spans_18 : decode cX1_spans 18 = .ok (.aload_n 0, 1) := dk_42 (dk_at dksX1_spans_0 18 rfl rfl)
theorem dX1_spans_19 : decode cX1_spans 19 = .ok (.getfield 7, 3) := dk_180 0 7 (dk_at dksX1_spans_0 19 rfl rfl)
theorem dX1_spans_22 : decode cX1_spans 22 = .ok (.iconst 1, 1) := dk_4 (dk_at dksX1_spans_0 22 rfl rfl)
theorem dX1_spans_23 : decode cX1_spans 23 = .ok (.iaload, 1) := dk_46 (dk_at dksX1_spans_0 23 rfl rfl)
theorem dX1_spans_24 : decode cX1_spans 24 = .ok (.if_icmp .ge 105, 3) := dk_162 0 105 (dk_at dksX1_spans_1 0 rfl rfl)
theorem dX1_spans_27 : decode cX1_spans 27 = .ok (.lconst 0, 1) := dk_9 (dk_at dksX1_spans_1 3 rfl rfl)
theorem dX1_spans_28 : decode cX1_spans 28 = .ok (.lstore 5, 2) := dk_55 5 (dk_at dksX1_spans_1 4 rfl rfl)
theorem dX1_spans_30 : decode cX1_spans 30 = .ok (.iconst 0, 1) := dk_3 (dk_at dksX1_spans_1 6 rfl rfl)
theorem dX1_spans_31 : decode cX1_spans 31 = .ok (.istore 7, 2) := dk_54 7 (dk_at dksX1_spans_1 7 rfl rfl)
theorem dX1_spans_33 : decode cX1_spans 33 = .ok (.iload 7, 2) := dk_21 7 (dk_at dksX1_spans_1 9 rfl rfl)
theorem dX1_spans_35 : decode cX1_spans 35 = .ok (.iload_n 3, 1) := dk_29 (dk_at dksX1_spans_1 11 rfl rfl)
theorem dX1_spans_36 : decode cX1_spans 36 = .ok (.invokestatic 99, 3) := dk_184 0 99 (dk_at dksX1_spans_1 12 rfl rfl)
theorem dX1_spans_39 : decode cX1_spans 39 = .ok (.if_icmp .ge 72, 3) := dk_162 0 72 (dk_at dksX1_spans_1 15 rfl rfl)
theorem dX1_spans_42 : decode cX1_spans 42 = .ok (.iload_n 1, 1) := dk_27 (dk_at dksX1_spans_1 18 rfl rfl)
theorem dX1_spans_43 : decode cX1_spans 43 = .ok (.iconst 1, 1) := dk_4 (dk_at dksX1_spans_1 19 rfl rfl)
theorem dX1_spans_44 : decode cX1_spans 44 = .ok (.if_icmp .ne 31, 3) := dk_160 0 31 (dk_at dksX1_spans_1 20 rfl rfl)
theorem dX1_spans_47 : decode cX1_spans 47 = .ok (.aload_n 0, 1) := dk_42 (dk_at dksX1_spans_1 23 rfl rfl)
theorem dX1_spans_48 : decode cX1_spans 48 = .ok (.getfield 7, 3) := dk_180 0 7 (dk_at dksX1_spans_2 0 rfl rfl)
theorem dX1_spans_51 : decode cX1_spans 51 = .ok (.iconst 1, 1) := dk_4 (dk_at dksX1_spans_2 3 rfl rfl)
theorem dX1_spans_52 : decode cX1_spans 52 = .ok (.iload 4, 2) := dk_21 4 (dk_at dksX1_spans_2 4 rfl rfl)
theorem dX1_spans_54 : decode cX1_spans 54 = .ok (.invokestatic 81, 3) := dk_184 0 81 (dk_at dksX1_spans_2 6 rfl rfl)
theorem dX1_spans_57 : decode cX1_spans 57 = .ok (.i2l, 1) := dk_133 (dk_at dksX1_spans_2 9 rfl rfl)
theorem dX1_spans_58 : decode cX1_spans 58 = .ok (.aload_n 0, 1) := dk_42 (dk_at dksX1_spans_2 10 rfl rfl)
theorem dX1_spans_59 : decode cX1_spans 59 = .ok (.iload_n 3, 1) := dk_29 (dk_at dksX1_spans_2 11 rfl rfl)
theorem dX1_spans_60 : decode cX1_spans 60 = .ok (.iload 7, 2) := dk_21 7 (dk_at dksX1_spans_2 12 rfl rfl)
theorem dX1_spans_62 : decode cX1_spans 62 = .ok (.invokestatic 102, 3) := dk_184 0 102 (dk_at dksX1_spans_2 14 rfl rfl)
theorem dX1_spans_65 : decode cX1_spans 65 = .ok (.iload 4, 2) := dk_21 4 (dk_at dksX1_spans_2 17 rfl rfl)
theorem dX1_spans_67 : decode cX1_spans 67 = .ok (.invokevirtual 67, 3) := dk_182 0 67 (dk_at dksX1_spans_2 19 rfl rfl)
theorem dX1_spans_70 : decode cX1_spans 70 = .ok (.i2l, 1) := dk_133 (dk_at dksX1_spans_2 22 rfl rfl)
theorem dX1_spans_71 : decode cX1_spans 71 = .ok (.lmul, 1) := dk_105 (dk_at dksX1_spans_2 23 rfl rfl)
theorem dX1_spans_72 : decode cX1_spans 72 = .ok (.goto 16, 3) := dk_167 0 16 (dk_at dksX1_spans_3 0 rfl rfl)
theorem dX1_spans_75 : decode cX1_spans 75 = .ok (.aload_n 0, 1) := dk_42 (dk_at dksX1_spans_3 3 rfl rfl)
theorem dX1_spans_76 : decode cX1_spans 76 = .ok (.iload 4, 2) := dk_21 4 (dk_at dksX1_spans_3 4 rfl rfl)
theorem dX1_spans_78 : decode cX1_spans 78 = .ok (.iload_n 3, 1) := dk_29 (dk_at dksX1_spans_3 6 rfl rfl)
theorem dX1_spans_79 : decode cX1_spans 79 = .ok (.iload 7, 2) := dk_21 7 (dk_at dksX1_spans_3 7 rfl rfl)
theorem dX1_spans_81 : decode cX1_spans 81 = .ok (.invokestatic 102, 3) := dk_184 0 102 (dk_at dksX1_spans_3 9 rfl rfl)
theorem dX1_spans_84 : decode cX1_spans 84 = .ok (.invokevirtual 71, 3) := dk_182 0 71 (dk_at dksX1_spans_3 12 rfl rfl)
theorem dX1_spans_87 : decode cX1_spans 87 = .ok (.i2l, 1) := dk_133 (dk_at dksX1_spans_3 15 rfl rfl)
theorem dX1_spans_88 : decode cX1_spans 88 = .ok (.lstore 8, 2) := dk_55 8 (dk_at dksX1_spans_3 16 rfl rfl)
theorem dX1_spans_90 : decode cX1_spans 90 = .ok (.lload 5, 2) := dk_22 5 (dk_at dksX1_spans_3 18 rfl rfl)
theorem dX1_spans_92 : decode cX1_spans 92 = .ok (.lload 8, 2) := dk_22 8 (dk_at dksX1_spans_3 20 rfl rfl)
theorem dX1_spans_94 : decode cX1_spans 94 = .ok (.aload_n 0, 1) := dk_42 (dk_at dksX1_spans_3 22 rfl rfl)
theorem dX1_spans_95 : decode cX1_spans 95 = .ok (.getfield 33, 3) := dk_180 0 33 (dk_at dksX1_spans_4 0 rfl rfl)
theorem dX1_spans_98 : decode cX1_spans 98 = .ok (.iload 7, 2) := dk_21 7 (dk_at dksX1_spans_4 3 rfl rfl)
theorem dX1_spans_100 : decode cX1_spans 100 = .ok (.laload, 1) := dk_47 (dk_at dksX1_spans_4 5 rfl rfl)
theorem dX1_spans_101 : decode cX1_spans 101 = .ok (.lmul, 1) := dk_105 (dk_at dksX1_spans_4 6 rfl rfl)
theorem dX1_spans_102 : decode cX1_spans 102 = .ok (.ladd, 1) := dk_97 (dk_at dksX1_spans_4 7 rfl rfl)
theorem dX1_spans_103 : decode cX1_spans 103 = .ok (.lstore 5, 2) := dk_55 5 (dk_at dksX1_spans_4 8 rfl rfl)
theorem dX1_spans_105 : decode cX1_spans 105 = .ok (.iinc 7 1, 3) := dk_132 7 1 (dk_at dksX1_spans_4 10 rfl rfl)
theorem dX1_spans_108 : decode cX1_spans 108 = .ok (.goto (-75), 3) := dk_167 255 181 (dk_at dksX1_spans_4 13 rfl rfl)
theorem dX1_spans_111 : decode cX1_spans 111 = .ok (.aload_n 0, 1) := dk_42 (dk_at dksX1_spans_4 16 rfl rfl)
theorem dX1_spans_112 : decode cX1_spans 112 = .ok (.iload 4, 2) := dk_21 4 (dk_at dksX1_spans_4 17 rfl rfl)
theorem dX1_spans_114 : decode cX1_spans 114 = .ok (.lload 5, 2) := dk_22 5 (dk_at dksX1_spans_4 19 rfl rfl)
theorem dX1_spans_116 : decode cX1_spans 116 = .ok (.aload_n 0, 1) := dk_42 (dk_at dksX1_spans_4 21 rfl rfl)
theorem dX1_spans_117 : decode cX1_spans 117 = .ok (.getfield 337, 3) := dk_180 1 81 (dk_at dksX1_spans_5 0 rfl rfl)
theorem dX1_spans_120 : decode cX1_spans 120 = .ok (.invokevirtual 351, 3) := dk_182 1 95 (dk_at dksX1_spans_5 3 rfl rfl)
theorem dX1_spans_123 : decode cX1_spans 123 = .ok (.iinc 4 1, 3) := dk_132 4 1 (dk_at dksX1_spans_5 6 rfl rfl)
theorem dX1_spans_126 : decode cX1_spans 126 = .ok (.goto (-110), 3) := dk_167 255 146 (dk_at dksX1_spans_5 9 rfl rfl)
theorem dX1_spans_129 : decode cX1_spans 129 = .ok (.return_, 1) := dk_177 (dk_at dksX1_spans_5 12 rfl rfl)
abbrev cX1_independent : ByteArray := prog_14_method_86_code
def yX1_independent : MethodName := ⟨RX1, "independent", "(I)I"⟩
def dkwX1_independent_4 : List UInt8 := [153, 0, 8, 21, 5, 167, 0, 4, 28, 61, 132, 4, 1, 167, 255, 177, 28, 172]
abbrev dktX1_independent_4 : List UInt8 := dkwX1_independent_4 ++ []
def dkwX1_independent_3 : List UInt8 := [21, 5, 182, 1, 71, 21, 5, 184, 0, 99, 160, 0, 7, 4, 167, 0, 4, 3, 54, 6, 21, 6]
abbrev dktX1_independent_3 : List UInt8 := dkwX1_independent_3 ++ dktX1_independent_4
def dkwX1_independent_2 : List UInt8 := [21, 5, 3, 182, 0, 127, 21, 5, 184, 0, 99, 160, 0, 7, 4, 167, 0, 26, 3, 167, 0, 22, 42]
abbrev dktX1_independent_2 : List UInt8 := dkwX1_independent_2 ++ dktX1_independent_3
def dkwX1_independent_1 : List UInt8 := [54, 4, 21, 4, 29, 162, 0, 79, 28, 4, 21, 4, 120, 128, 54, 5, 27, 5, 160, 0, 27, 42, 5]
abbrev dktX1_independent_1 : List UInt8 := dkwX1_independent_1 ++ dktX1_independent_2
def dkwX1_independent_0 : List UInt8 := [3, 61, 27, 4, 160, 0, 12, 42, 180, 0, 7, 3, 46, 167, 0, 9, 42, 180, 0, 7, 5, 46, 62, 3]
abbrev dktX1_independent_0 : List UInt8 := dkwX1_independent_0 ++ dktX1_independent_1
theorem dksX1_independent_0 : cX1_independent.data.toList.drop 0 = dktX1_independent_0 := by decide +kernel
theorem dksX1_independent_1 : cX1_independent.data.toList.drop 24 = dktX1_independent_1 := dk_seg dksX1_independent_0 24 rfl rfl
theorem dksX1_independent_2 : cX1_independent.data.toList.drop 47 = dktX1_independent_2 := dk_seg dksX1_independent_1 23 rfl rfl
theorem dksX1_independent_3 : cX1_independent.data.toList.drop 70 = dktX1_independent_3 := dk_seg dksX1_independent_2 23 rfl rfl
theorem dksX1_independent_4 : cX1_independent.data.toList.drop 92 = dktX1_independent_4 := dk_seg dksX1_independent_3 22 rfl rfl
theorem dX1_independent_0 : decode cX1_independent 0 = .ok (.iconst 0, 1) := dk_3 (dk_at dksX1_independent_0 0 rfl rfl)
theorem dX1_independent_1 : decode cX1_independent 1 = .ok (.istore_n 2, 1) := dk_61 (dk_at dksX1_independent_0 1 rfl rfl)
theorem dX1_independent_2 : decode cX1_independent 2 = .ok (.iload_n 1, 1) := dk_27 (dk_at dksX1_independent_0 2 rfl rfl)
theorem dX1_independent_3 : decode cX1_independent 3 = .ok (.iconst 1, 1) := dk_4 (dk_at dksX1_independent_0 3 rfl rfl)
theorem dX1_independent_4 : decode cX1_independent 4 = .ok (.if_icmp .ne 12, 3) := dk_160 0 12 (dk_at dksX1_independent_0 4 rfl rfl)
theorem dX1_independent_7 : decode cX1_independent 7 = .ok (.aload_n 0, 1) := dk_42 (dk_at dksX1_independent_0 7 rfl rfl)
theorem dX1_independent_8 : decode cX1_independent 8 = .ok (.getfield 7, 3) := dk_180 0 7 (dk_at dksX1_independent_0 8 rfl rfl)
theorem dX1_independent_11 : decode cX1_independent 11 = .ok (.iconst 0, 1) := dk_3 (dk_at dksX1_independent_0 11 rfl rfl)
theorem dX1_independent_12 : decode cX1_independent 12 = .ok (.iaload, 1) := dk_46 (dk_at dksX1_independent_0 12 rfl rfl)
theorem dX1_independent_13 : decode cX1_independent 13 = .ok (.goto 9, 3) := dk_167 0 9 (dk_at dksX1_independent_0 13 rfl rfl)
theorem dX1_independent_16 : decode cX1_independent 16 = .ok (.aload_n 0, 1) := dk_42 (dk_at dksX1_independent_0 16 rfl rfl)
theorem dX1_independent_17 : decode cX1_independent 17 = .ok (.getfield 7, 3) := dk_180 0 7 (dk_at dksX1_independent_0 17 rfl rfl)
theorem dX1_independent_20 : decode cX1_independent 20 = .ok (.iconst 2, 1) := dk_5 (dk_at dksX1_independent_0 20 rfl rfl)
theorem dX1_independent_21 : decode cX1_independent 21 = .ok (.iaload, 1) := dk_46 (dk_at dksX1_independent_0 21 rfl rfl)
theorem dX1_independent_22 : decode cX1_independent 22 = .ok (.istore_n 3, 1) := dk_62 (dk_at dksX1_independent_0 22 rfl rfl)
theorem dX1_independent_23 : decode cX1_independent 23 = .ok (.iconst 0, 1) := dk_3 (dk_at dksX1_independent_0 23 rfl rfl)
theorem dX1_independent_24 : decode cX1_independent 24 = .ok (.istore 4, 2) := dk_54 4 (dk_at dksX1_independent_1 0 rfl rfl)
theorem dX1_independent_26 : decode cX1_independent 26 = .ok (.iload 4, 2) := dk_21 4 (dk_at dksX1_independent_1 2 rfl rfl)
theorem dX1_independent_28 : decode cX1_independent 28 = .ok (.iload_n 3, 1) := dk_29 (dk_at dksX1_independent_1 4 rfl rfl)
theorem dX1_independent_29 : decode cX1_independent 29 = .ok (.if_icmp .ge 79, 3) := dk_162 0 79 (dk_at dksX1_independent_1 5 rfl rfl)
theorem dX1_independent_32 : decode cX1_independent 32 = .ok (.iload_n 2, 1) := dk_28 (dk_at dksX1_independent_1 8 rfl rfl)
theorem dX1_independent_33 : decode cX1_independent 33 = .ok (.iconst 1, 1) := dk_4 (dk_at dksX1_independent_1 9 rfl rfl)
theorem dX1_independent_34 : decode cX1_independent 34 = .ok (.iload 4, 2) := dk_21 4 (dk_at dksX1_independent_1 10 rfl rfl)
theorem dX1_independent_36 : decode cX1_independent 36 = .ok (.ishl, 1) := dk_120 (dk_at dksX1_independent_1 12 rfl rfl)
theorem dX1_independent_37 : decode cX1_independent 37 = .ok (.ior, 1) := dk_128 (dk_at dksX1_independent_1 13 rfl rfl)
theorem dX1_independent_38 : decode cX1_independent 38 = .ok (.istore 5, 2) := dk_54 5 (dk_at dksX1_independent_1 14 rfl rfl)
theorem dX1_independent_40 : decode cX1_independent 40 = .ok (.iload_n 1, 1) := dk_27 (dk_at dksX1_independent_1 16 rfl rfl)
theorem dX1_independent_41 : decode cX1_independent 41 = .ok (.iconst 2, 1) := dk_5 (dk_at dksX1_independent_1 17 rfl rfl)
theorem dX1_independent_42 : decode cX1_independent 42 = .ok (.if_icmp .ne 27, 3) := dk_160 0 27 (dk_at dksX1_independent_1 18 rfl rfl)
theorem dX1_independent_45 : decode cX1_independent 45 = .ok (.aload_n 0, 1) := dk_42 (dk_at dksX1_independent_1 21 rfl rfl)
theorem dX1_independent_46 : decode cX1_independent 46 = .ok (.iconst 2, 1) := dk_5 (dk_at dksX1_independent_1 22 rfl rfl)
theorem dX1_independent_47 : decode cX1_independent 47 = .ok (.iload 5, 2) := dk_21 5 (dk_at dksX1_independent_2 0 rfl rfl)
theorem dX1_independent_49 : decode cX1_independent 49 = .ok (.iconst 0, 1) := dk_3 (dk_at dksX1_independent_2 2 rfl rfl)
theorem dX1_independent_50 : decode cX1_independent 50 = .ok (.invokevirtual 127, 3) := dk_182 0 127 (dk_at dksX1_independent_2 3 rfl rfl)
theorem dX1_independent_53 : decode cX1_independent 53 = .ok (.iload 5, 2) := dk_21 5 (dk_at dksX1_independent_2 6 rfl rfl)
theorem dX1_independent_55 : decode cX1_independent 55 = .ok (.invokestatic 99, 3) := dk_184 0 99 (dk_at dksX1_independent_2 8 rfl rfl)
theorem dX1_independent_58 : decode cX1_independent 58 = .ok (.if_icmp .ne 7, 3) := dk_160 0 7 (dk_at dksX1_independent_2 11 rfl rfl)
theorem dX1_independent_61 : decode cX1_independent 61 = .ok (.iconst 1, 1) := dk_4 (dk_at dksX1_independent_2 14 rfl rfl)
theorem dX1_independent_62 : decode cX1_independent 62 = .ok (.goto 26, 3) := dk_167 0 26 (dk_at dksX1_independent_2 15 rfl rfl)
theorem dX1_independent_65 : decode cX1_independent 65 = .ok (.iconst 0, 1) := dk_3 (dk_at dksX1_independent_2 18 rfl rfl)
theorem dX1_independent_66 : decode cX1_independent 66 = .ok (.goto 22, 3) := dk_167 0 22 (dk_at dksX1_independent_2 19 rfl rfl)
theorem dX1_independent_69 : decode cX1_independent 69 = .ok (.aload_n 0, 1) := dk_42 (dk_at dksX1_independent_2 22 rfl rfl)
theorem dX1_independent_70 : decode cX1_independent 70 = .ok (.iload 5, 2) := dk_21 5 (dk_at dksX1_independent_3 0 rfl rfl)
theorem dX1_independent_72 : decode cX1_independent 72 = .ok (.invokevirtual 327, 3) := dk_182 1 71 (dk_at dksX1_independent_3 2 rfl rfl)
theorem dX1_independent_75 : decode cX1_independent 75 = .ok (.iload 5, 2) := dk_21 5 (dk_at dksX1_independent_3 5 rfl rfl)
theorem dX1_independent_77 : decode cX1_independent 77 = .ok (.invokestatic 99, 3) := dk_184 0 99 (dk_at dksX1_independent_3 7 rfl rfl)
theorem dX1_independent_80 : decode cX1_independent 80 = .ok (.if_icmp .ne 7, 3) := dk_160 0 7 (dk_at dksX1_independent_3 10 rfl rfl)
theorem dX1_independent_83 : decode cX1_independent 83 = .ok (.iconst 1, 1) := dk_4 (dk_at dksX1_independent_3 13 rfl rfl)
theorem dX1_independent_84 : decode cX1_independent 84 = .ok (.goto 4, 3) := dk_167 0 4 (dk_at dksX1_independent_3 14 rfl rfl)
theorem dX1_independent_87 : decode cX1_independent 87 = .ok (.iconst 0, 1) := dk_3 (dk_at dksX1_independent_3 17 rfl rfl)
theorem dX1_independent_88 : decode cX1_independent 88 = .ok (.istore 6, 2) := dk_54 6 (dk_at dksX1_independent_3 18 rfl rfl)
theorem dX1_independent_90 : decode cX1_independent 90 = .ok (.iload 6, 2) := dk_21 6 (dk_at dksX1_independent_3 20 rfl rfl)
theorem dX1_independent_92 : decode cX1_independent 92 = .ok (.ifCond .eq 8, 3) := dk_153 0 8 (dk_at dksX1_independent_4 0 rfl rfl)
theorem dX1_independent_95 : decode cX1_independent 95 = .ok (.iload 5, 2) := dk_21 5 (dk_at dksX1_independent_4 3 rfl rfl)
theorem dX1_independent_97 : decode cX1_independent 97 = .ok (.goto 4, 3) := dk_167 0 4 (dk_at dksX1_independent_4 5 rfl rfl)
theorem dX1_independent_100 : decode cX1_independent 100 = .ok (.iload_n 2, 1) := dk_28 (dk_at dksX1_independent_4 8 rfl rfl)
theorem dX1_independent_101 : decode cX1_independent 101 = .ok (.istore_n 2, 1) := dk_61 (dk_at dksX1_independent_4 9 rfl rfl)
theorem dX1_independent_102 : decode cX1_independent 102 = .ok (.iinc 4 1, 3) := dk_132 4 1 (dk_at dksX1_independent_4 10 rfl rfl)
theorem dX1_independent_105 : decode cX1_independent 105 = .ok (.goto (-79), 3) := dk_167 255 177 (dk_at dksX1_independent_4 13 rfl rfl)
theorem dX1_independent_108 : decode cX1_independent 108 = .ok (.iload_n 2, 1) := dk_28 (dk_at dksX1_independent_4 16 rfl rfl)
theorem dX1_independent_109 : decode cX1_independent 109 = .ok (.ireturn, 1) := dk_172 (dk_at dksX1_independent_4 17 rfl rfl)
abbrev cX1_rankOfRows : ByteArray := prog_14_method_87_code
def yX1_rankOfRows : MethodName := ⟨RX1, "rankOfRows", "(I)I"⟩
def dkwX1_rankOfRows_3 : List UInt8 := [100, 27, 126, 62, 167, 255, 185, 28, 172]
abbrev dktX1_rankOfRows_3 : List UInt8 := dkwX1_rankOfRows_3 ++ []
def dkwX1_rankOfRows_2 : List UInt8 := [21, 4, 3, 182, 0, 113, 9, 148, 153, 0, 8, 29, 184, 0, 99, 61, 132, 4, 1, 167, 255, 201, 29, 4]
abbrev dktX1_rankOfRows_2 : List UInt8 := dkwX1_rankOfRows_2 ++ dktX1_rankOfRows_3
def dkwX1_rankOfRows_1 : List UInt8 := [21, 4, 184, 0, 99, 29, 184, 0, 99, 160, 0, 30, 29, 184, 0, 99, 28, 164, 0, 22, 42, 4, 29]
abbrev dktX1_rankOfRows_1 : List UInt8 := dkwX1_rankOfRows_1 ++ dktX1_rankOfRows_2
def dkwX1_rankOfRows_0 : List UInt8 := [3, 61, 27, 62, 29, 158, 0, 73, 3, 54, 4, 21, 4, 4, 42, 180, 0, 7, 4, 46, 120, 162, 0, 48]
abbrev dktX1_rankOfRows_0 : List UInt8 := dkwX1_rankOfRows_0 ++ dktX1_rankOfRows_1
theorem dksX1_rankOfRows_0 : cX1_rankOfRows.data.toList.drop 0 = dktX1_rankOfRows_0 := by decide +kernel
theorem dksX1_rankOfRows_1 : cX1_rankOfRows.data.toList.drop 24 = dktX1_rankOfRows_1 := dk_seg dksX1_rankOfRows_0 24 rfl rfl
theorem dksX1_rankOfRows_2 : cX1_rankOfRows.data.toList.drop 47 = dktX1_rankOfRows_2 := dk_seg dksX1_rankOfRows_1 23 rfl rfl
theorem dksX1_rankOfRows_3 : cX1_rankOfRows.data.toList.drop 71 = dktX1_rankOfRows_3 := dk_seg dksX1_rankOfRows_2 24 rfl rfl
theorem dX1_rankOfRows_0 : decode cX1_rankOfRows 0 = .ok (.iconst 0, 1) := dk_3 (dk_at dksX1_rankOfRows_0 0 rfl rfl)
theorem dX1_rankOfRows_1 : decode cX1_rankOfRows 1 = .ok (.istore_n 2, 1) := dk_61 (dk_at dksX1_rankOfRows_0 1 rfl rfl)
theorem dX1_rankOfRows_2 : decode cX1_rankOfRows 2 = .ok (.iload_n 1, 1) := dk_27 (dk_at dksX1_rankOfRows_0 2 rfl rfl)
theorem dX1_rankOfRows_3 : decode cX1_rankOfRows 3 = .ok (.istore_n 3, 1) := dk_62 (dk_at dksX1_rankOfRows_0 3 rfl rfl)
theorem dX1_rankOfRows_4 : decode cX1_rankOfRows 4 = .ok (.iload_n 3, 1) := dk_29 (dk_at dksX1_rankOfRows_0 4 rfl rfl)
theorem dX1_rankOfRows_5 : decode cX1_rankOfRows 5 = .ok (.ifCond .le 73, 3) := dk_158 0 73 (dk_at dksX1_rankOfRows_0 5 rfl rfl)
theorem dX1_rankOfRows_8 : decode cX1_rankOfRows 8 = .ok (.iconst 0, 1) := dk_3 (dk_at dksX1_rankOfRows_0 8 rfl rfl)
theorem dX1_rankOfRows_9 : decode cX1_rankOfRows 9 = .ok (.istore 4, 2) := dk_54 4 (dk_at dksX1_rankOfRows_0 9 rfl rfl)
theorem dX1_rankOfRows_11 : decode cX1_rankOfRows 11 = .ok (.iload 4, 2) := dk_21 4 (dk_at dksX1_rankOfRows_0 11 rfl rfl)
theorem dX1_rankOfRows_13 : decode cX1_rankOfRows 13 = .ok (.iconst 1, 1) := dk_4 (dk_at dksX1_rankOfRows_0 13 rfl rfl)
theorem dX1_rankOfRows_14 : decode cX1_rankOfRows 14 = .ok (.aload_n 0, 1) := dk_42 (dk_at dksX1_rankOfRows_0 14 rfl rfl)
theorem dX1_rankOfRows_15 : decode cX1_rankOfRows 15 = .ok (.getfield 7, 3) := dk_180 0 7 (dk_at dksX1_rankOfRows_0 15 rfl rfl)
theorem dX1_rankOfRows_18 : decode cX1_rankOfRows 18 = .ok (.iconst 1, 1) := dk_4 (dk_at dksX1_rankOfRows_0 18 rfl rfl)
theorem dX1_rankOfRows_19 : decode cX1_rankOfRows 19 = .ok (.iaload, 1) := dk_46 (dk_at dksX1_rankOfRows_0 19 rfl rfl)
theorem dX1_rankOfRows_20 : decode cX1_rankOfRows 20 = .ok (.ishl, 1) := dk_120 (dk_at dksX1_rankOfRows_0 20 rfl rfl)
theorem dX1_rankOfRows_21 : decode cX1_rankOfRows 21 = .ok (.if_icmp .ge 48, 3) := dk_162 0 48 (dk_at dksX1_rankOfRows_0 21 rfl rfl)
theorem dX1_rankOfRows_24 : decode cX1_rankOfRows 24 = .ok (.iload 4, 2) := dk_21 4 (dk_at dksX1_rankOfRows_1 0 rfl rfl)
theorem dX1_rankOfRows_26 : decode cX1_rankOfRows 26 = .ok (.invokestatic 99, 3) := dk_184 0 99 (dk_at dksX1_rankOfRows_1 2 rfl rfl)
theorem dX1_rankOfRows_29 : decode cX1_rankOfRows 29 = .ok (.iload_n 3, 1) := dk_29 (dk_at dksX1_rankOfRows_1 5 rfl rfl)
theorem dX1_rankOfRows_30 : decode cX1_rankOfRows 30 = .ok (.invokestatic 99, 3) := dk_184 0 99 (dk_at dksX1_rankOfRows_1 6 rfl rfl)
theorem dX1_rankOfRows_33 : decode cX1_rankOfRows 33 = .ok (.if_icmp .ne 30, 3) := dk_160 0 30 (dk_at dksX1_rankOfRows_1 9 rfl rfl)
theorem dX1_rankOfRows_36 : decode cX1_rankOfRows 36 = .ok (.iload_n 3, 1) := dk_29 (dk_at dksX1_rankOfRows_1 12 rfl rfl)
theorem dX1_rankOfRows_37 : decode cX1_rankOfRows 37 = .ok (.invokestatic 99, 3) := dk_184 0 99 (dk_at dksX1_rankOfRows_1 13 rfl rfl)
theorem dX1_rankOfRows_40 : decode cX1_rankOfRows 40 = .ok (.iload_n 2, 1) := dk_28 (dk_at dksX1_rankOfRows_1 16 rfl rfl)
theorem dX1_rankOfRows_41 : decode cX1_rankOfRows 41 = .ok (.if_icmp .le 22, 3) := dk_164 0 22 (dk_at dksX1_rankOfRows_1 17 rfl rfl)
theorem dX1_rankOfRows_44 : decode cX1_rankOfRows 44 = .ok (.aload_n 0, 1) := dk_42 (dk_at dksX1_rankOfRows_1 20 rfl rfl)
theorem dX1_rankOfRows_45 : decode cX1_rankOfRows 45 = .ok (.iconst 1, 1) := dk_4 (dk_at dksX1_rankOfRows_1 21 rfl rfl)
theorem dX1_rankOfRows_46 : decode cX1_rankOfRows 46 = .ok (.iload_n 3, 1) := dk_29 (dk_at dksX1_rankOfRows_1 22 rfl rfl)
theorem dX1_rankOfRows_47 : decode cX1_rankOfRows 47 = .ok (.iload 4, 2) := dk_21 4 (dk_at dksX1_rankOfRows_2 0 rfl rfl)
theorem dX1_rankOfRows_49 : decode cX1_rankOfRows 49 = .ok (.iconst 0, 1) := dk_3 (dk_at dksX1_rankOfRows_2 2 rfl rfl)
theorem dX1_rankOfRows_50 : decode cX1_rankOfRows 50 = .ok (.invokevirtual 113, 3) := dk_182 0 113 (dk_at dksX1_rankOfRows_2 3 rfl rfl)
theorem dX1_rankOfRows_53 : decode cX1_rankOfRows 53 = .ok (.lconst 0, 1) := dk_9 (dk_at dksX1_rankOfRows_2 6 rfl rfl)
theorem dX1_rankOfRows_54 : decode cX1_rankOfRows 54 = .ok (.lcmp, 1) := dk_148 (dk_at dksX1_rankOfRows_2 7 rfl rfl)
theorem dX1_rankOfRows_55 : decode cX1_rankOfRows 55 = .ok (.ifCond .eq 8, 3) := dk_153 0 8 (dk_at dksX1_rankOfRows_2 8 rfl rfl)
theorem dX1_rankOfRows_58 : decode cX1_rankOfRows 58 = .ok (.iload_n 3, 1) := dk_29 (dk_at dksX1_rankOfRows_2 11 rfl rfl)
theorem dX1_rankOfRows_59 : decode cX1_rankOfRows 59 = .ok (.invokestatic 99, 3) := dk_184 0 99 (dk_at dksX1_rankOfRows_2 12 rfl rfl)
theorem dX1_rankOfRows_62 : decode cX1_rankOfRows 62 = .ok (.istore_n 2, 1) := dk_61 (dk_at dksX1_rankOfRows_2 15 rfl rfl)
theorem dX1_rankOfRows_63 : decode cX1_rankOfRows 63 = .ok (.iinc 4 1, 3) := dk_132 4 1 (dk_at dksX1_rankOfRows_2 16 rfl rfl)
theorem dX1_rankOfRows_66 : decode cX1_rankOfRows 66 = .ok (.goto (-55), 3) := dk_167 255 201 (dk_at dksX1_rankOfRows_2 19 rfl rfl)
theorem dX1_rankOfRows_69 : decode cX1_rankOfRows 69 = .ok (.iload_n 3, 1) := dk_29 (dk_at dksX1_rankOfRows_2 22 rfl rfl)
theorem dX1_rankOfRows_70 : decode cX1_rankOfRows 70 = .ok (.iconst 1, 1) := dk_4 (dk_at dksX1_rankOfRows_2 23 rfl rfl)
theorem dX1_rankOfRows_71 : decode cX1_rankOfRows 71 = .ok (.isub, 1) := dk_100 (dk_at dksX1_rankOfRows_3 0 rfl rfl)
theorem dX1_rankOfRows_72 : decode cX1_rankOfRows 72 = .ok (.iload_n 1, 1) := dk_27 (dk_at dksX1_rankOfRows_3 1 rfl rfl)
theorem dX1_rankOfRows_73 : decode cX1_rankOfRows 73 = .ok (.iand, 1) := dk_126 (dk_at dksX1_rankOfRows_3 2 rfl rfl)
theorem dX1_rankOfRows_74 : decode cX1_rankOfRows 74 = .ok (.istore_n 3, 1) := dk_62 (dk_at dksX1_rankOfRows_3 3 rfl rfl)
theorem dX1_rankOfRows_75 : decode cX1_rankOfRows 75 = .ok (.goto (-71), 3) := dk_167 255 185 (dk_at dksX1_rankOfRows_3 4 rfl rfl)
theorem dX1_rankOfRows_78 : decode cX1_rankOfRows 78 = .ok (.iload_n 2, 1) := dk_28 (dk_at dksX1_rankOfRows_3 7 rfl rfl)
theorem dX1_rankOfRows_79 : decode cX1_rankOfRows 79 = .ok (.ireturn, 1) := dk_172 (dk_at dksX1_rankOfRows_3 8 rfl rfl)
abbrev cX1_solves : ByteArray := prog_14_method_91_code
def yX1_solves : MethodName := ⟨RX1, "solves", "(III)V"⟩
def dkwX1_solves_4 : List UInt8 := [132, 5, 1, 167, 255, 186, 177]
abbrev dktX1_solves_4 : List UInt8 := dkwX1_solves_4 ++ []
def dkwX1_solves_3 : List UInt8 := [182, 1, 85, 80, 132, 6, 1, 167, 255, 221, 42, 180, 0, 33, 21, 5, 42, 21, 4, 182, 0, 109, 80]
abbrev dktX1_solves_3 : List UInt8 := dkwX1_solves_3 ++ dktX1_solves_4
def dkwX1_solves_2 : List UInt8 := [162, 0, 34, 42, 180, 0, 29, 16, 6, 21, 6, 104, 21, 5, 96, 42, 27, 28, 21, 6, 184, 0, 102, 29]
abbrev dktX1_solves_2 : List UInt8 := dkwX1_solves_2 ++ dktX1_solves_3
def dkwX1_solves_1 : List UInt8 := [54, 5, 21, 5, 21, 4, 162, 0, 69, 42, 27, 28, 182, 1, 78, 3, 54, 6, 21, 6, 21, 4]
abbrev dktX1_solves_1 : List UInt8 := dkwX1_solves_1 ++ dktX1_solves_2
def dkwX1_solves_0 : List UInt8 := [28, 184, 0, 99, 54, 4, 42, 27, 28, 182, 1, 78, 42, 42, 21, 4, 182, 0, 109, 181, 1, 81, 3]
abbrev dktX1_solves_0 : List UInt8 := dkwX1_solves_0 ++ dktX1_solves_1
theorem dksX1_solves_0 : cX1_solves.data.toList.drop 0 = dktX1_solves_0 := by decide +kernel
theorem dksX1_solves_1 : cX1_solves.data.toList.drop 23 = dktX1_solves_1 := dk_seg dksX1_solves_0 23 rfl rfl
theorem dksX1_solves_2 : cX1_solves.data.toList.drop 45 = dktX1_solves_2 := dk_seg dksX1_solves_1 22 rfl rfl
theorem dksX1_solves_3 : cX1_solves.data.toList.drop 69 = dktX1_solves_3 := dk_seg dksX1_solves_2 24 rfl rfl
theorem dksX1_solves_4 : cX1_solves.data.toList.drop 92 = dktX1_solves_4 := dk_seg dksX1_solves_3 23 rfl rfl
theorem dX1_solves_0 : decode cX1_solves 0 = .ok (.iload_n 2, 1) := dk_28 (dk_at dksX1_solves_0 0 rfl rfl)
theorem dX1_solves_1 : decode cX1_solves 1 = .ok (.invokestatic 99, 3) := dk_184 0 99 (dk_at dksX1_solves_0 1 rfl rfl)
theorem dX1_solves_4 : decode cX1_solves 4 = .ok (.istore 4, 2) := dk_54 4 (dk_at dksX1_solves_0 4 rfl rfl)
theorem dX1_solves_6 : decode cX1_solves 6 = .ok (.aload_n 0, 1) := dk_42 (dk_at dksX1_solves_0 6 rfl rfl)
theorem dX1_solves_7 : decode cX1_solves 7 = .ok (.iload_n 1, 1) := dk_27 (dk_at dksX1_solves_0 7 rfl rfl)
theorem dX1_solves_8 : decode cX1_solves 8 = .ok (.iload_n 2, 1) := dk_28 (dk_at dksX1_solves_0 8 rfl rfl)
theorem dX1_solves_9 : decode cX1_solves 9 = .ok (.invokevirtual 334, 3) := dk_182 1 78 (dk_at dksX1_solves_0 9 rfl rfl)
theorem dX1_solves_12 : decode cX1_solves 12 = .ok (.aload_n 0, 1) := dk_42 (dk_at dksX1_solves_0 12 rfl rfl)
theorem dX1_solves_13 : decode cX1_solves 13 = .ok (.aload_n 0, 1) := dk_42 (dk_at dksX1_solves_0 13 rfl rfl)
theorem dX1_solves_14 : decode cX1_solves 14 = .ok (.iload 4, 2) := dk_21 4 (dk_at dksX1_solves_0 14 rfl rfl)
theorem dX1_solves_16 : decode cX1_solves 16 = .ok (.invokevirtual 109, 3) := dk_182 0 109 (dk_at dksX1_solves_0 16 rfl rfl)
theorem dX1_solves_19 : decode cX1_solves 19 = .ok (.putfield 337, 3) := dk_181 1 81 (dk_at dksX1_solves_0 19 rfl rfl)
theorem dX1_solves_22 : decode cX1_solves 22 = .ok (.iconst 0, 1) := dk_3 (dk_at dksX1_solves_0 22 rfl rfl)
theorem dX1_solves_23 : decode cX1_solves 23 = .ok (.istore 5, 2) := dk_54 5 (dk_at dksX1_solves_1 0 rfl rfl)
theorem dX1_solves_25 : decode cX1_solves 25 = .ok (.iload 5, 2) := dk_21 5 (dk_at dksX1_solves_1 2 rfl rfl)
theorem dX1_solves_27 : decode cX1_solves 27 = .ok (.iload 4, 2) := dk_21 4 (dk_at dksX1_solves_1 4 rfl rfl)
theorem dX1_solves_29 : decode cX1_solves 29 = .ok (.if_icmp .ge 69, 3) := dk_162 0 69 (dk_at dksX1_solves_1 6 rfl rfl)
theorem dX1_solves_32 : decode cX1_solves 32 = .ok (.aload_n 0, 1) := dk_42 (dk_at dksX1_solves_1 9 rfl rfl)
theorem dX1_solves_33 : decode cX1_solves 33 = .ok (.iload_n 1, 1) := dk_27 (dk_at dksX1_solves_1 10 rfl rfl)
theorem dX1_solves_34 : decode cX1_solves 34 = .ok (.iload_n 2, 1) := dk_28 (dk_at dksX1_solves_1 11 rfl rfl)
theorem dX1_solves_35 : decode cX1_solves 35 = .ok (.invokevirtual 334, 3) := dk_182 1 78 (dk_at dksX1_solves_1 12 rfl rfl)
theorem dX1_solves_38 : decode cX1_solves 38 = .ok (.iconst 0, 1) := dk_3 (dk_at dksX1_solves_1 15 rfl rfl)
theorem dX1_solves_39 : decode cX1_solves 39 = .ok (.istore 6, 2) := dk_54 6 (dk_at dksX1_solves_1 16 rfl rfl)
theorem dX1_solves_41 : decode cX1_solves 41 = .ok (.iload 6, 2) := dk_21 6 (dk_at dksX1_solves_1 18 rfl rfl)
theorem dX1_solves_43 : decode cX1_solves 43 = .ok (.iload 4, 2) := dk_21 4 (dk_at dksX1_solves_1 20 rfl rfl)
theorem dX1_solves_45 : decode cX1_solves 45 = .ok (.if_icmp .ge 34, 3) := dk_162 0 34 (dk_at dksX1_solves_2 0 rfl rfl)
theorem dX1_solves_48 : decode cX1_solves 48 = .ok (.aload_n 0, 1) := dk_42 (dk_at dksX1_solves_2 3 rfl rfl)
theorem dX1_solves_49 : decode cX1_solves 49 = .ok (.getfield 29, 3) := dk_180 0 29 (dk_at dksX1_solves_2 4 rfl rfl)
theorem dX1_solves_52 : decode cX1_solves 52 = .ok (.bipush 6, 2) := dk_16 6 (dk_at dksX1_solves_2 7 rfl rfl)
theorem dX1_solves_54 : decode cX1_solves 54 = .ok (.iload 6, 2) := dk_21 6 (dk_at dksX1_solves_2 9 rfl rfl)
theorem dX1_solves_56 : decode cX1_solves 56 = .ok (.imul, 1) := dk_104 (dk_at dksX1_solves_2 11 rfl rfl)
theorem dX1_solves_57 : decode cX1_solves 57 = .ok (.iload 5, 2) := dk_21 5 (dk_at dksX1_solves_2 12 rfl rfl)
theorem dX1_solves_59 : decode cX1_solves 59 = .ok (.iadd, 1) := dk_96 (dk_at dksX1_solves_2 14 rfl rfl)
theorem dX1_solves_60 : decode cX1_solves 60 = .ok (.aload_n 0, 1) := dk_42 (dk_at dksX1_solves_2 15 rfl rfl)
theorem dX1_solves_61 : decode cX1_solves 61 = .ok (.iload_n 1, 1) := dk_27 (dk_at dksX1_solves_2 16 rfl rfl)
theorem dX1_solves_62 : decode cX1_solves 62 = .ok (.iload_n 2, 1) := dk_28 (dk_at dksX1_solves_2 17 rfl rfl)
theorem dX1_solves_63 : decode cX1_solves 63 = .ok (.iload 6, 2) := dk_21 6 (dk_at dksX1_solves_2 18 rfl rfl)
theorem dX1_solves_65 : decode cX1_solves 65 = .ok (.invokestatic 102, 3) := dk_184 0 102 (dk_at dksX1_solves_2 20 rfl rfl)
theorem dX1_solves_68 : decode cX1_solves 68 = .ok (.iload_n 3, 1) := dk_29 (dk_at dksX1_solves_2 23 rfl rfl)
theorem dX1_solves_69 : decode cX1_solves 69 = .ok (.invokevirtual 341, 3) := dk_182 1 85 (dk_at dksX1_solves_3 0 rfl rfl)
theorem dX1_solves_72 : decode cX1_solves 72 = .ok (.lastore, 1) := dk_80 (dk_at dksX1_solves_3 3 rfl rfl)
theorem dX1_solves_73 : decode cX1_solves 73 = .ok (.iinc 6 1, 3) := dk_132 6 1 (dk_at dksX1_solves_3 4 rfl rfl)
theorem dX1_solves_76 : decode cX1_solves 76 = .ok (.goto (-35), 3) := dk_167 255 221 (dk_at dksX1_solves_3 7 rfl rfl)
theorem dX1_solves_79 : decode cX1_solves 79 = .ok (.aload_n 0, 1) := dk_42 (dk_at dksX1_solves_3 10 rfl rfl)
theorem dX1_solves_80 : decode cX1_solves 80 = .ok (.getfield 33, 3) := dk_180 0 33 (dk_at dksX1_solves_3 11 rfl rfl)
theorem dX1_solves_83 : decode cX1_solves 83 = .ok (.iload 5, 2) := dk_21 5 (dk_at dksX1_solves_3 14 rfl rfl)
theorem dX1_solves_85 : decode cX1_solves 85 = .ok (.aload_n 0, 1) := dk_42 (dk_at dksX1_solves_3 16 rfl rfl)
theorem dX1_solves_86 : decode cX1_solves 86 = .ok (.iload 4, 2) := dk_21 4 (dk_at dksX1_solves_3 17 rfl rfl)
theorem dX1_solves_88 : decode cX1_solves 88 = .ok (.invokevirtual 109, 3) := dk_182 0 109 (dk_at dksX1_solves_3 19 rfl rfl)
theorem dX1_solves_91 : decode cX1_solves 91 = .ok (.lastore, 1) := dk_80 (dk_at dksX1_solves_3 22 rfl rfl)
theorem dX1_solves_92 : decode cX1_solves 92 = .ok (.iinc 5 1, 3) := dk_132 5 1 (dk_at dksX1_solves_4 0 rfl rfl)
theorem dX1_solves_95 : decode cX1_solves 95 = .ok (.goto (-70), 3) := dk_167 255 186 (dk_at dksX1_solves_4 3 rfl rfl)
theorem dX1_solves_98 : decode cX1_solves 98 = .ok (.return_, 1) := dk_177 (dk_at dksX1_solves_4 6 rfl rfl)
abbrev cX1_laysProducts : ByteArray := prog_14_method_90_code
def yX1_laysProducts : MethodName := ⟨RX1, "laysProducts", "(II)V"⟩
def dkwX1_laysProducts_2 : List UInt8 := [184, 0, 102, 182, 1, 74, 80, 132, 4, 1, 167, 255, 207, 177]
abbrev dktX1_laysProducts_2 : List UInt8 := dkwX1_laysProducts_2 ++ []
def dkwX1_laysProducts_1 : List UInt8 := [29, 108, 104, 21, 4, 29, 112, 96, 42, 27, 28, 21, 4, 29, 108, 184, 0, 102, 28, 21, 4, 29, 112]
abbrev dktX1_laysProducts_1 : List UInt8 := dkwX1_laysProducts_1 ++ dktX1_laysProducts_2
def dkwX1_laysProducts_0 : List UInt8 := [28, 184, 0, 99, 62, 3, 54, 4, 21, 4, 29, 29, 104, 162, 0, 47, 42, 180, 0, 29, 16, 6, 21, 4]
abbrev dktX1_laysProducts_0 : List UInt8 := dkwX1_laysProducts_0 ++ dktX1_laysProducts_1
theorem dksX1_laysProducts_0 : cX1_laysProducts.data.toList.drop 0 = dktX1_laysProducts_0 := by decide +kernel
theorem dksX1_laysProducts_1 : cX1_laysProducts.data.toList.drop 24 = dktX1_laysProducts_1 := dk_seg dksX1_laysProducts_0 24 rfl rfl
theorem dksX1_laysProducts_2 : cX1_laysProducts.data.toList.drop 47 = dktX1_laysProducts_2 := dk_seg dksX1_laysProducts_1 23 rfl rfl
theorem dX1_laysProducts_0 : decode cX1_laysProducts 0 = .ok (.iload_n 2, 1) := dk_28 (dk_at dksX1_laysProducts_0 0 rfl rfl)
theorem dX1_laysProducts_1 : decode cX1_laysProducts 1 = .ok (.invokestatic 99, 3) := dk_184 0 99 (dk_at dksX1_laysProducts_0 1 rfl rfl)
theorem dX1_laysProducts_4 : decode cX1_laysProducts 4 = .ok (.istore_n 3, 1) := dk_62 (dk_at dksX1_laysProducts_0 4 rfl rfl)
theorem dX1_laysProducts_5 : decode cX1_laysProducts 5 = .ok (.iconst 0, 1) := dk_3 (dk_at dksX1_laysProducts_0 5 rfl rfl)
theorem dX1_laysProducts_6 : decode cX1_laysProducts 6 = .ok (.istore 4, 2) := dk_54 4 (dk_at dksX1_laysProducts_0 6 rfl rfl)
theorem dX1_laysProducts_8 : decode cX1_laysProducts 8 = .ok (.iload 4, 2) := dk_21 4 (dk_at dksX1_laysProducts_0 8 rfl rfl)
theorem dX1_laysProducts_10 : decode cX1_laysProducts 10 = .ok (.iload_n 3, 1) := dk_29 (dk_at dksX1_laysProducts_0 10 rfl rfl)
theorem dX1_laysProducts_11 : decode cX1_laysProducts 11 = .ok (.iload_n 3, 1) := dk_29 (dk_at dksX1_laysProducts_0 11 rfl rfl)
theorem dX1_laysProducts_12 : decode cX1_laysProducts 12 = .ok (.imul, 1) := dk_104 (dk_at dksX1_laysProducts_0 12 rfl rfl)
theorem dX1_laysProducts_13 : decode cX1_laysProducts 13 = .ok (.if_icmp .ge 47, 3) := dk_162 0 47 (dk_at dksX1_laysProducts_0 13 rfl rfl)
theorem dX1_laysProducts_16 : decode cX1_laysProducts 16 = .ok (.aload_n 0, 1) := dk_42 (dk_at dksX1_laysProducts_0 16 rfl rfl)
theorem dX1_laysProducts_17 : decode cX1_laysProducts 17 = .ok (.getfield 29, 3) := dk_180 0 29 (dk_at dksX1_laysProducts_0 17 rfl rfl)
theorem dX1_laysProducts_20 : decode cX1_laysProducts 20 = .ok (.bipush 6, 2) := dk_16 6 (dk_at dksX1_laysProducts_0 20 rfl rfl)
theorem dX1_laysProducts_22 : decode cX1_laysProducts 22 = .ok (.iload 4, 2) := dk_21 4 (dk_at dksX1_laysProducts_0 22 rfl rfl)
theorem dX1_laysProducts_24 : decode cX1_laysProducts 24 = .ok (.iload_n 3, 1) := dk_29 (dk_at dksX1_laysProducts_1 0 rfl rfl)
theorem dX1_laysProducts_25 : decode cX1_laysProducts 25 = .ok (.idiv, 1) := dk_108 (dk_at dksX1_laysProducts_1 1 rfl rfl)
theorem dX1_laysProducts_26 : decode cX1_laysProducts 26 = .ok (.imul, 1) := dk_104 (dk_at dksX1_laysProducts_1 2 rfl rfl)
theorem dX1_laysProducts_27 : decode cX1_laysProducts 27 = .ok (.iload 4, 2) := dk_21 4 (dk_at dksX1_laysProducts_1 3 rfl rfl)
theorem dX1_laysProducts_29 : decode cX1_laysProducts 29 = .ok (.iload_n 3, 1) := dk_29 (dk_at dksX1_laysProducts_1 5 rfl rfl)
theorem dX1_laysProducts_30 : decode cX1_laysProducts 30 = .ok (.irem, 1) := dk_112 (dk_at dksX1_laysProducts_1 6 rfl rfl)
theorem dX1_laysProducts_31 : decode cX1_laysProducts 31 = .ok (.iadd, 1) := dk_96 (dk_at dksX1_laysProducts_1 7 rfl rfl)
theorem dX1_laysProducts_32 : decode cX1_laysProducts 32 = .ok (.aload_n 0, 1) := dk_42 (dk_at dksX1_laysProducts_1 8 rfl rfl)
theorem dX1_laysProducts_33 : decode cX1_laysProducts 33 = .ok (.iload_n 1, 1) := dk_27 (dk_at dksX1_laysProducts_1 9 rfl rfl)
theorem dX1_laysProducts_34 : decode cX1_laysProducts 34 = .ok (.iload_n 2, 1) := dk_28 (dk_at dksX1_laysProducts_1 10 rfl rfl)
theorem dX1_laysProducts_35 : decode cX1_laysProducts 35 = .ok (.iload 4, 2) := dk_21 4 (dk_at dksX1_laysProducts_1 11 rfl rfl)
theorem dX1_laysProducts_37 : decode cX1_laysProducts 37 = .ok (.iload_n 3, 1) := dk_29 (dk_at dksX1_laysProducts_1 13 rfl rfl)
theorem dX1_laysProducts_38 : decode cX1_laysProducts 38 = .ok (.idiv, 1) := dk_108 (dk_at dksX1_laysProducts_1 14 rfl rfl)
theorem dX1_laysProducts_39 : decode cX1_laysProducts 39 = .ok (.invokestatic 102, 3) := dk_184 0 102 (dk_at dksX1_laysProducts_1 15 rfl rfl)
theorem dX1_laysProducts_42 : decode cX1_laysProducts 42 = .ok (.iload_n 2, 1) := dk_28 (dk_at dksX1_laysProducts_1 18 rfl rfl)
theorem dX1_laysProducts_43 : decode cX1_laysProducts 43 = .ok (.iload 4, 2) := dk_21 4 (dk_at dksX1_laysProducts_1 19 rfl rfl)
theorem dX1_laysProducts_45 : decode cX1_laysProducts 45 = .ok (.iload_n 3, 1) := dk_29 (dk_at dksX1_laysProducts_1 21 rfl rfl)
theorem dX1_laysProducts_46 : decode cX1_laysProducts 46 = .ok (.irem, 1) := dk_112 (dk_at dksX1_laysProducts_1 22 rfl rfl)
theorem dX1_laysProducts_47 : decode cX1_laysProducts 47 = .ok (.invokestatic 102, 3) := dk_184 0 102 (dk_at dksX1_laysProducts_2 0 rfl rfl)
theorem dX1_laysProducts_50 : decode cX1_laysProducts 50 = .ok (.invokevirtual 330, 3) := dk_182 1 74 (dk_at dksX1_laysProducts_2 3 rfl rfl)
theorem dX1_laysProducts_53 : decode cX1_laysProducts 53 = .ok (.lastore, 1) := dk_80 (dk_at dksX1_laysProducts_2 6 rfl rfl)
theorem dX1_laysProducts_54 : decode cX1_laysProducts 54 = .ok (.iinc 4 1, 3) := dk_132 4 1 (dk_at dksX1_laysProducts_2 7 rfl rfl)
theorem dX1_laysProducts_57 : decode cX1_laysProducts 57 = .ok (.goto (-49), 3) := dk_167 255 207 (dk_at dksX1_laysProducts_2 10 rfl rfl)
theorem dX1_laysProducts_60 : decode cX1_laysProducts 60 = .ok (.return_, 1) := dk_177 (dk_at dksX1_laysProducts_2 13 rfl rfl)
abbrev cX1_product : ByteArray := prog_14_method_88_code
def yX1_product : MethodName := ⟨RX1, "product", "(III)J"⟩
def dkwX1_product_3 : List UInt8 := [132, 6, 1, 167, 255, 205, 22, 4, 173]
abbrev dktX1_product_3 : List UInt8 := dkwX1_product_3 ++ []
def dkwX1_product_2 : List UInt8 := [182, 0, 71, 133, 105, 16, 6, 42, 180, 0, 7, 4, 21, 6, 184, 0, 81, 108, 133, 105, 97, 55, 4]
abbrev dktX1_product_2 : List UInt8 := dkwX1_product_2 ++ dktX1_product_3
def dkwX1_product_1 : List UInt8 := [180, 0, 7, 4, 46, 162, 0, 46, 22, 4, 42, 21, 6, 28, 182, 0, 71, 133, 42, 21, 6, 29]
abbrev dktX1_product_1 : List UInt8 := dkwX1_product_1 ++ dktX1_product_2
def dkwX1_product_0 : List UInt8 := [27, 4, 160, 0, 12, 42, 3, 28, 29, 182, 1, 44, 133, 173, 9, 55, 4, 3, 54, 6, 21, 6, 42]
abbrev dktX1_product_0 : List UInt8 := dkwX1_product_0 ++ dktX1_product_1
theorem dksX1_product_0 : cX1_product.data.toList.drop 0 = dktX1_product_0 := by decide +kernel
theorem dksX1_product_1 : cX1_product.data.toList.drop 23 = dktX1_product_1 := dk_seg dksX1_product_0 23 rfl rfl
theorem dksX1_product_2 : cX1_product.data.toList.drop 45 = dktX1_product_2 := dk_seg dksX1_product_1 22 rfl rfl
theorem dksX1_product_3 : cX1_product.data.toList.drop 68 = dktX1_product_3 := dk_seg dksX1_product_2 23 rfl rfl
theorem dX1_product_0 : decode cX1_product 0 = .ok (.iload_n 1, 1) := dk_27 (dk_at dksX1_product_0 0 rfl rfl)
theorem dX1_product_1 : decode cX1_product 1 = .ok (.iconst 1, 1) := dk_4 (dk_at dksX1_product_0 1 rfl rfl)
theorem dX1_product_2 : decode cX1_product 2 = .ok (.if_icmp .ne 12, 3) := dk_160 0 12 (dk_at dksX1_product_0 2 rfl rfl)
theorem dX1_product_5 : decode cX1_product 5 = .ok (.aload_n 0, 1) := dk_42 (dk_at dksX1_product_0 5 rfl rfl)
theorem dX1_product_6 : decode cX1_product 6 = .ok (.iconst 0, 1) := dk_3 (dk_at dksX1_product_0 6 rfl rfl)
theorem dX1_product_7 : decode cX1_product 7 = .ok (.iload_n 2, 1) := dk_28 (dk_at dksX1_product_0 7 rfl rfl)
theorem dX1_product_8 : decode cX1_product 8 = .ok (.iload_n 3, 1) := dk_29 (dk_at dksX1_product_0 8 rfl rfl)
theorem dX1_product_9 : decode cX1_product 9 = .ok (.invokevirtual 300, 3) := dk_182 1 44 (dk_at dksX1_product_0 9 rfl rfl)
theorem dX1_product_12 : decode cX1_product 12 = .ok (.i2l, 1) := dk_133 (dk_at dksX1_product_0 12 rfl rfl)
theorem dX1_product_13 : decode cX1_product 13 = .ok (.lreturn, 1) := dk_173 (dk_at dksX1_product_0 13 rfl rfl)
theorem dX1_product_14 : decode cX1_product 14 = .ok (.lconst 0, 1) := dk_9 (dk_at dksX1_product_0 14 rfl rfl)
theorem dX1_product_15 : decode cX1_product 15 = .ok (.lstore 4, 2) := dk_55 4 (dk_at dksX1_product_0 15 rfl rfl)
theorem dX1_product_17 : decode cX1_product 17 = .ok (.iconst 0, 1) := dk_3 (dk_at dksX1_product_0 17 rfl rfl)
theorem dX1_product_18 : decode cX1_product 18 = .ok (.istore 6, 2) := dk_54 6 (dk_at dksX1_product_0 18 rfl rfl)
theorem dX1_product_20 : decode cX1_product 20 = .ok (.iload 6, 2) := dk_21 6 (dk_at dksX1_product_0 20 rfl rfl)
theorem dX1_product_22 : decode cX1_product 22 = .ok (.aload_n 0, 1) := dk_42 (dk_at dksX1_product_0 22 rfl rfl)
theorem dX1_product_23 : decode cX1_product 23 = .ok (.getfield 7, 3) := dk_180 0 7 (dk_at dksX1_product_1 0 rfl rfl)
theorem dX1_product_26 : decode cX1_product 26 = .ok (.iconst 1, 1) := dk_4 (dk_at dksX1_product_1 3 rfl rfl)
theorem dX1_product_27 : decode cX1_product 27 = .ok (.iaload, 1) := dk_46 (dk_at dksX1_product_1 4 rfl rfl)
theorem dX1_product_28 : decode cX1_product 28 = .ok (.if_icmp .ge 46, 3) := dk_162 0 46 (dk_at dksX1_product_1 5 rfl rfl)
theorem dX1_product_31 : decode cX1_product 31 = .ok (.lload 4, 2) := dk_22 4 (dk_at dksX1_product_1 8 rfl rfl)
theorem dX1_product_33 : decode cX1_product 33 = .ok (.aload_n 0, 1) := dk_42 (dk_at dksX1_product_1 10 rfl rfl)
theorem dX1_product_34 : decode cX1_product 34 = .ok (.iload 6, 2) := dk_21 6 (dk_at dksX1_product_1 11 rfl rfl)
theorem dX1_product_36 : decode cX1_product 36 = .ok (.iload_n 2, 1) := dk_28 (dk_at dksX1_product_1 13 rfl rfl)
theorem dX1_product_37 : decode cX1_product 37 = .ok (.invokevirtual 71, 3) := dk_182 0 71 (dk_at dksX1_product_1 14 rfl rfl)
theorem dX1_product_40 : decode cX1_product 40 = .ok (.i2l, 1) := dk_133 (dk_at dksX1_product_1 17 rfl rfl)
theorem dX1_product_41 : decode cX1_product 41 = .ok (.aload_n 0, 1) := dk_42 (dk_at dksX1_product_1 18 rfl rfl)
theorem dX1_product_42 : decode cX1_product 42 = .ok (.iload 6, 2) := dk_21 6 (dk_at dksX1_product_1 19 rfl rfl)
theorem dX1_product_44 : decode cX1_product 44 = .ok (.iload_n 3, 1) := dk_29 (dk_at dksX1_product_1 21 rfl rfl)
theorem dX1_product_45 : decode cX1_product 45 = .ok (.invokevirtual 71, 3) := dk_182 0 71 (dk_at dksX1_product_2 0 rfl rfl)
theorem dX1_product_48 : decode cX1_product 48 = .ok (.i2l, 1) := dk_133 (dk_at dksX1_product_2 3 rfl rfl)
theorem dX1_product_49 : decode cX1_product 49 = .ok (.lmul, 1) := dk_105 (dk_at dksX1_product_2 4 rfl rfl)
theorem dX1_product_50 : decode cX1_product 50 = .ok (.bipush 6, 2) := dk_16 6 (dk_at dksX1_product_2 5 rfl rfl)
theorem dX1_product_52 : decode cX1_product 52 = .ok (.aload_n 0, 1) := dk_42 (dk_at dksX1_product_2 7 rfl rfl)
theorem dX1_product_53 : decode cX1_product 53 = .ok (.getfield 7, 3) := dk_180 0 7 (dk_at dksX1_product_2 8 rfl rfl)
theorem dX1_product_56 : decode cX1_product 56 = .ok (.iconst 1, 1) := dk_4 (dk_at dksX1_product_2 11 rfl rfl)
theorem dX1_product_57 : decode cX1_product 57 = .ok (.iload 6, 2) := dk_21 6 (dk_at dksX1_product_2 12 rfl rfl)
theorem dX1_product_59 : decode cX1_product 59 = .ok (.invokestatic 81, 3) := dk_184 0 81 (dk_at dksX1_product_2 14 rfl rfl)
theorem dX1_product_62 : decode cX1_product 62 = .ok (.idiv, 1) := dk_108 (dk_at dksX1_product_2 17 rfl rfl)
theorem dX1_product_63 : decode cX1_product 63 = .ok (.i2l, 1) := dk_133 (dk_at dksX1_product_2 18 rfl rfl)
theorem dX1_product_64 : decode cX1_product 64 = .ok (.lmul, 1) := dk_105 (dk_at dksX1_product_2 19 rfl rfl)
theorem dX1_product_65 : decode cX1_product 65 = .ok (.ladd, 1) := dk_97 (dk_at dksX1_product_2 20 rfl rfl)
theorem dX1_product_66 : decode cX1_product 66 = .ok (.lstore 4, 2) := dk_55 4 (dk_at dksX1_product_2 21 rfl rfl)
theorem dX1_product_68 : decode cX1_product 68 = .ok (.iinc 6 1, 3) := dk_132 6 1 (dk_at dksX1_product_3 0 rfl rfl)
theorem dX1_product_71 : decode cX1_product 71 = .ok (.goto (-51), 3) := dk_167 255 205 (dk_at dksX1_product_3 3 rfl rfl)
theorem dX1_product_74 : decode cX1_product 74 = .ok (.lload 4, 2) := dk_22 4 (dk_at dksX1_product_3 6 rfl rfl)
theorem dX1_product_76 : decode cX1_product 76 = .ok (.lreturn, 1) := dk_173 (dk_at dksX1_product_3 8 rfl rfl)
abbrev cX1_against : ByteArray := prog_14_method_89_code
def yX1_against : MethodName := ⟨RX1, "against", "(III)J"⟩
def dkwX1_against_3 : List UInt8 := [133, 105, 97, 55, 4, 132, 6, 1, 167, 255, 197, 22, 4, 173]
abbrev dktX1_against_3 : List UInt8 := dkwX1_against_3 ++ []
def dkwX1_against_2 : List UInt8 := [16, 6, 29, 104, 96, 21, 6, 96, 46, 133, 105, 16, 6, 42, 180, 0, 7, 4, 21, 6, 184, 0, 81, 108]
abbrev dktX1_against_2 : List UInt8 := dkwX1_against_2 ++ dktX1_against_3
def dkwX1_against_1 : List UInt8 := [180, 0, 7, 4, 46, 162, 0, 54, 22, 4, 42, 21, 6, 28, 182, 0, 71, 133, 42, 180, 0, 7, 16, 45]
abbrev dktX1_against_1 : List UInt8 := dkwX1_against_1 ++ dktX1_against_2
def dkwX1_against_0 : List UInt8 := [27, 4, 160, 0, 11, 42, 29, 28, 182, 1, 62, 133, 173, 9, 55, 4, 3, 54, 6, 21, 6, 42]
abbrev dktX1_against_0 : List UInt8 := dkwX1_against_0 ++ dktX1_against_1
theorem dksX1_against_0 : cX1_against.data.toList.drop 0 = dktX1_against_0 := by decide +kernel
theorem dksX1_against_1 : cX1_against.data.toList.drop 22 = dktX1_against_1 := dk_seg dksX1_against_0 22 rfl rfl
theorem dksX1_against_2 : cX1_against.data.toList.drop 46 = dktX1_against_2 := dk_seg dksX1_against_1 24 rfl rfl
theorem dksX1_against_3 : cX1_against.data.toList.drop 70 = dktX1_against_3 := dk_seg dksX1_against_2 24 rfl rfl
theorem dX1_against_0 : decode cX1_against 0 = .ok (.iload_n 1, 1) := dk_27 (dk_at dksX1_against_0 0 rfl rfl)
theorem dX1_against_1 : decode cX1_against 1 = .ok (.iconst 1, 1) := dk_4 (dk_at dksX1_against_0 1 rfl rfl)
theorem dX1_against_2 : decode cX1_against 2 = .ok (.if_icmp .ne 11, 3) := dk_160 0 11 (dk_at dksX1_against_0 2 rfl rfl)
theorem dX1_against_5 : decode cX1_against 5 = .ok (.aload_n 0, 1) := dk_42 (dk_at dksX1_against_0 5 rfl rfl)
theorem dX1_against_6 : decode cX1_against 6 = .ok (.iload_n 3, 1) := dk_29 (dk_at dksX1_against_0 6 rfl rfl)
theorem dX1_against_7 : decode cX1_against 7 = .ok (.iload_n 2, 1) := dk_28 (dk_at dksX1_against_0 7 rfl rfl)
theorem dX1_against_8 : decode cX1_against 8 = .ok (.invokevirtual 318, 3) := dk_182 1 62 (dk_at dksX1_against_0 8 rfl rfl)
theorem dX1_against_11 : decode cX1_against 11 = .ok (.i2l, 1) := dk_133 (dk_at dksX1_against_0 11 rfl rfl)
theorem dX1_against_12 : decode cX1_against 12 = .ok (.lreturn, 1) := dk_173 (dk_at dksX1_against_0 12 rfl rfl)
theorem dX1_against_13 : decode cX1_against 13 = .ok (.lconst 0, 1) := dk_9 (dk_at dksX1_against_0 13 rfl rfl)
theorem dX1_against_14 : decode cX1_against 14 = .ok (.lstore 4, 2) := dk_55 4 (dk_at dksX1_against_0 14 rfl rfl)
theorem dX1_against_16 : decode cX1_against 16 = .ok (.iconst 0, 1) := dk_3 (dk_at dksX1_against_0 16 rfl rfl)
theorem dX1_against_17 : decode cX1_against 17 = .ok (.istore 6, 2) := dk_54 6 (dk_at dksX1_against_0 17 rfl rfl)
theorem dX1_against_19 : decode cX1_against 19 = .ok (.iload 6, 2) := dk_21 6 (dk_at dksX1_against_0 19 rfl rfl)
theorem dX1_against_21 : decode cX1_against 21 = .ok (.aload_n 0, 1) := dk_42 (dk_at dksX1_against_0 21 rfl rfl)
theorem dX1_against_22 : decode cX1_against 22 = .ok (.getfield 7, 3) := dk_180 0 7 (dk_at dksX1_against_1 0 rfl rfl)
theorem dX1_against_25 : decode cX1_against 25 = .ok (.iconst 1, 1) := dk_4 (dk_at dksX1_against_1 3 rfl rfl)
theorem dX1_against_26 : decode cX1_against 26 = .ok (.iaload, 1) := dk_46 (dk_at dksX1_against_1 4 rfl rfl)
theorem dX1_against_27 : decode cX1_against 27 = .ok (.if_icmp .ge 54, 3) := dk_162 0 54 (dk_at dksX1_against_1 5 rfl rfl)
theorem dX1_against_30 : decode cX1_against 30 = .ok (.lload 4, 2) := dk_22 4 (dk_at dksX1_against_1 8 rfl rfl)
theorem dX1_against_32 : decode cX1_against 32 = .ok (.aload_n 0, 1) := dk_42 (dk_at dksX1_against_1 10 rfl rfl)
theorem dX1_against_33 : decode cX1_against 33 = .ok (.iload 6, 2) := dk_21 6 (dk_at dksX1_against_1 11 rfl rfl)
theorem dX1_against_35 : decode cX1_against 35 = .ok (.iload_n 2, 1) := dk_28 (dk_at dksX1_against_1 13 rfl rfl)
theorem dX1_against_36 : decode cX1_against 36 = .ok (.invokevirtual 71, 3) := dk_182 0 71 (dk_at dksX1_against_1 14 rfl rfl)
theorem dX1_against_39 : decode cX1_against 39 = .ok (.i2l, 1) := dk_133 (dk_at dksX1_against_1 17 rfl rfl)
theorem dX1_against_40 : decode cX1_against 40 = .ok (.aload_n 0, 1) := dk_42 (dk_at dksX1_against_1 18 rfl rfl)
theorem dX1_against_41 : decode cX1_against 41 = .ok (.getfield 7, 3) := dk_180 0 7 (dk_at dksX1_against_1 19 rfl rfl)
theorem dX1_against_44 : decode cX1_against 44 = .ok (.bipush 45, 2) := dk_16 45 (dk_at dksX1_against_1 22 rfl rfl)
theorem dX1_against_46 : decode cX1_against 46 = .ok (.bipush 6, 2) := dk_16 6 (dk_at dksX1_against_2 0 rfl rfl)
theorem dX1_against_48 : decode cX1_against 48 = .ok (.iload_n 3, 1) := dk_29 (dk_at dksX1_against_2 2 rfl rfl)
theorem dX1_against_49 : decode cX1_against 49 = .ok (.imul, 1) := dk_104 (dk_at dksX1_against_2 3 rfl rfl)
theorem dX1_against_50 : decode cX1_against 50 = .ok (.iadd, 1) := dk_96 (dk_at dksX1_against_2 4 rfl rfl)
theorem dX1_against_51 : decode cX1_against 51 = .ok (.iload 6, 2) := dk_21 6 (dk_at dksX1_against_2 5 rfl rfl)
theorem dX1_against_53 : decode cX1_against 53 = .ok (.iadd, 1) := dk_96 (dk_at dksX1_against_2 7 rfl rfl)
theorem dX1_against_54 : decode cX1_against 54 = .ok (.iaload, 1) := dk_46 (dk_at dksX1_against_2 8 rfl rfl)
theorem dX1_against_55 : decode cX1_against 55 = .ok (.i2l, 1) := dk_133 (dk_at dksX1_against_2 9 rfl rfl)
theorem dX1_against_56 : decode cX1_against 56 = .ok (.lmul, 1) := dk_105 (dk_at dksX1_against_2 10 rfl rfl)
theorem dX1_against_57 : decode cX1_against 57 = .ok (.bipush 6, 2) := dk_16 6 (dk_at dksX1_against_2 11 rfl rfl)
theorem dX1_against_59 : decode cX1_against 59 = .ok (.aload_n 0, 1) := dk_42 (dk_at dksX1_against_2 13 rfl rfl)
theorem dX1_against_60 : decode cX1_against 60 = .ok (.getfield 7, 3) := dk_180 0 7 (dk_at dksX1_against_2 14 rfl rfl)
theorem dX1_against_63 : decode cX1_against 63 = .ok (.iconst 1, 1) := dk_4 (dk_at dksX1_against_2 17 rfl rfl)
theorem dX1_against_64 : decode cX1_against 64 = .ok (.iload 6, 2) := dk_21 6 (dk_at dksX1_against_2 18 rfl rfl)
theorem dX1_against_66 : decode cX1_against 66 = .ok (.invokestatic 81, 3) := dk_184 0 81 (dk_at dksX1_against_2 20 rfl rfl)
theorem dX1_against_69 : decode cX1_against 69 = .ok (.idiv, 1) := dk_108 (dk_at dksX1_against_2 23 rfl rfl)
theorem dX1_against_70 : decode cX1_against 70 = .ok (.i2l, 1) := dk_133 (dk_at dksX1_against_3 0 rfl rfl)
theorem dX1_against_71 : decode cX1_against 71 = .ok (.lmul, 1) := dk_105 (dk_at dksX1_against_3 1 rfl rfl)
theorem dX1_against_72 : decode cX1_against 72 = .ok (.ladd, 1) := dk_97 (dk_at dksX1_against_3 2 rfl rfl)
theorem dX1_against_73 : decode cX1_against 73 = .ok (.lstore 4, 2) := dk_55 4 (dk_at dksX1_against_3 3 rfl rfl)
theorem dX1_against_75 : decode cX1_against 75 = .ok (.iinc 6 1, 3) := dk_132 6 1 (dk_at dksX1_against_3 5 rfl rfl)
theorem dX1_against_78 : decode cX1_against 78 = .ok (.goto (-59), 3) := dk_167 255 197 (dk_at dksX1_against_3 8 rfl rfl)
theorem dX1_against_81 : decode cX1_against 81 = .ok (.lload 4, 2) := dk_22 4 (dk_at dksX1_against_3 11 rfl rfl)
theorem dX1_against_83 : decode cX1_against 83 = .ok (.lreturn, 1) := dk_173 (dk_at dksX1_against_3 13 rfl rfl)
abbrev cX1_tells : ByteArray := prog_14_method_92_code
def yX1_tells : MethodName := ⟨RX1, "tells", "(IJJ)V"⟩
def dkwX1_tells_1 : List UInt8 := [55, 6, 42, 180, 0, 36, 27, 32, 22, 6, 109, 80, 42, 180, 0, 39, 27, 22, 4, 22, 6, 109, 80, 177]
abbrev dktX1_tells_1 : List UInt8 := dkwX1_tells_1 ++ []
def dkwX1_tells_0 : List UInt8 := [32, 22, 4, 184, 0, 117, 55, 6, 22, 4, 9, 148, 156, 0, 9, 22, 6, 117, 167, 0, 5, 22, 6]
abbrev dktX1_tells_0 : List UInt8 := dkwX1_tells_0 ++ dktX1_tells_1
theorem dksX1_tells_0 : cX1_tells.data.toList.drop 0 = dktX1_tells_0 := by decide +kernel
theorem dksX1_tells_1 : cX1_tells.data.toList.drop 23 = dktX1_tells_1 := dk_seg dksX1_tells_0 23 rfl rfl
theorem dX1_tells_0 : decode cX1_tells 0 = .ok (.lload_n 2, 1) := dk_32 (dk_at dksX1_tells_0 0 rfl rfl)
theorem dX1_tells_1 : decode cX1_tells 1 = .ok (.lload 4, 2) := dk_22 4 (dk_at dksX1_tells_0 1 rfl rfl)
theorem dX1_tells_3 : decode cX1_tells 3 = .ok (.invokestatic 117, 3) := dk_184 0 117 (dk_at dksX1_tells_0 3 rfl rfl)
theorem dX1_tells_6 : decode cX1_tells 6 = .ok (.lstore 6, 2) := dk_55 6 (dk_at dksX1_tells_0 6 rfl rfl)
theorem dX1_tells_8 : decode cX1_tells 8 = .ok (.lload 4, 2) := dk_22 4 (dk_at dksX1_tells_0 8 rfl rfl)
theorem dX1_tells_10 : decode cX1_tells 10 = .ok (.lconst 0, 1) := dk_9 (dk_at dksX1_tells_0 10 rfl rfl)
theorem dX1_tells_11 : decode cX1_tells 11 = .ok (.lcmp, 1) := dk_148 (dk_at dksX1_tells_0 11 rfl rfl)
theorem dX1_tells_12 : decode cX1_tells 12 = .ok (.ifCond .ge 9, 3) := dk_156 0 9 (dk_at dksX1_tells_0 12 rfl rfl)
theorem dX1_tells_15 : decode cX1_tells 15 = .ok (.lload 6, 2) := dk_22 6 (dk_at dksX1_tells_0 15 rfl rfl)
theorem dX1_tells_17 : decode cX1_tells 17 = .ok (.lneg, 1) := dk_117 (dk_at dksX1_tells_0 17 rfl rfl)
theorem dX1_tells_18 : decode cX1_tells 18 = .ok (.goto 5, 3) := dk_167 0 5 (dk_at dksX1_tells_0 18 rfl rfl)
theorem dX1_tells_21 : decode cX1_tells 21 = .ok (.lload 6, 2) := dk_22 6 (dk_at dksX1_tells_0 21 rfl rfl)
theorem dX1_tells_23 : decode cX1_tells 23 = .ok (.lstore 6, 2) := dk_55 6 (dk_at dksX1_tells_1 0 rfl rfl)
theorem dX1_tells_25 : decode cX1_tells 25 = .ok (.aload_n 0, 1) := dk_42 (dk_at dksX1_tells_1 2 rfl rfl)
theorem dX1_tells_26 : decode cX1_tells 26 = .ok (.getfield 36, 3) := dk_180 0 36 (dk_at dksX1_tells_1 3 rfl rfl)
theorem dX1_tells_29 : decode cX1_tells 29 = .ok (.iload_n 1, 1) := dk_27 (dk_at dksX1_tells_1 6 rfl rfl)
theorem dX1_tells_30 : decode cX1_tells 30 = .ok (.lload_n 2, 1) := dk_32 (dk_at dksX1_tells_1 7 rfl rfl)
theorem dX1_tells_31 : decode cX1_tells 31 = .ok (.lload 6, 2) := dk_22 6 (dk_at dksX1_tells_1 8 rfl rfl)
theorem dX1_tells_33 : decode cX1_tells 33 = .ok (.ldiv, 1) := dk_109 (dk_at dksX1_tells_1 10 rfl rfl)
theorem dX1_tells_34 : decode cX1_tells 34 = .ok (.lastore, 1) := dk_80 (dk_at dksX1_tells_1 11 rfl rfl)
theorem dX1_tells_35 : decode cX1_tells 35 = .ok (.aload_n 0, 1) := dk_42 (dk_at dksX1_tells_1 12 rfl rfl)
theorem dX1_tells_36 : decode cX1_tells 36 = .ok (.getfield 39, 3) := dk_180 0 39 (dk_at dksX1_tells_1 13 rfl rfl)
theorem dX1_tells_39 : decode cX1_tells 39 = .ok (.iload_n 1, 1) := dk_27 (dk_at dksX1_tells_1 16 rfl rfl)
theorem dX1_tells_40 : decode cX1_tells 40 = .ok (.lload 4, 2) := dk_22 4 (dk_at dksX1_tells_1 17 rfl rfl)
theorem dX1_tells_42 : decode cX1_tells 42 = .ok (.lload 6, 2) := dk_22 6 (dk_at dksX1_tells_1 19 rfl rfl)
theorem dX1_tells_44 : decode cX1_tells 44 = .ok (.ldiv, 1) := dk_109 (dk_at dksX1_tells_1 21 rfl rfl)
theorem dX1_tells_45 : decode cX1_tells 45 = .ok (.lastore, 1) := dk_80 (dk_at dksX1_tells_1 22 rfl rfl)
theorem dX1_tells_46 : decode cX1_tells 46 = .ok (.return_, 1) := dk_177 (dk_at dksX1_tells_1 23 rfl rfl)
abbrev cX1_length : ByteArray := prog_14_method_97_code
def yX1_length : MethodName := ⟨RX1, "length", "(III)J"⟩
def dkwX1_length_2 : List UInt8 := [173, 42, 27, 28, 182, 1, 115, 29, 154, 0, 10, 42, 180, 1, 107, 167, 0, 7, 42, 180, 1, 110, 173]
abbrev dktX1_length_2 : List UInt8 := dkwX1_length_2 ++ []
def dkwX1_length_1 : List UInt8 := [133, 9, 20, 0, 250, 184, 0, 150, 153, 0, 13, 29, 133, 9, 10, 184, 0, 150, 154, 0, 7, 20, 1, 102]
abbrev dktX1_length_1 : List UInt8 := dkwX1_length_1 ++ dktX1_length_2
def dkwX1_length_0 : List UInt8 := [42, 182, 0, 244, 154, 0, 7, 20, 1, 113, 173, 27, 133, 9, 20, 0, 242, 184, 0, 150, 153, 0, 25, 28]
abbrev dktX1_length_0 : List UInt8 := dkwX1_length_0 ++ dktX1_length_1
theorem dksX1_length_0 : cX1_length.data.toList.drop 0 = dktX1_length_0 := by decide +kernel
theorem dksX1_length_1 : cX1_length.data.toList.drop 24 = dktX1_length_1 := dk_seg dksX1_length_0 24 rfl rfl
theorem dksX1_length_2 : cX1_length.data.toList.drop 48 = dktX1_length_2 := dk_seg dksX1_length_1 24 rfl rfl
theorem dX1_length_0 : decode cX1_length 0 = .ok (.aload_n 0, 1) := dk_42 (dk_at dksX1_length_0 0 rfl rfl)
theorem dX1_length_1 : decode cX1_length 1 = .ok (.invokevirtual 244, 3) := dk_182 0 244 (dk_at dksX1_length_0 1 rfl rfl)
theorem dX1_length_4 : decode cX1_length 4 = .ok (.ifCond .ne 7, 3) := dk_154 0 7 (dk_at dksX1_length_0 4 rfl rfl)
theorem dX1_length_7 : decode cX1_length 7 = .ok (.ldc2_w 369, 3) := dk_20 1 113 (dk_at dksX1_length_0 7 rfl rfl)
theorem dX1_length_10 : decode cX1_length 10 = .ok (.lreturn, 1) := dk_173 (dk_at dksX1_length_0 10 rfl rfl)
theorem dX1_length_11 : decode cX1_length 11 = .ok (.iload_n 1, 1) := dk_27 (dk_at dksX1_length_0 11 rfl rfl)
theorem dX1_length_12 : decode cX1_length 12 = .ok (.i2l, 1) := dk_133 (dk_at dksX1_length_0 12 rfl rfl)
theorem dX1_length_13 : decode cX1_length 13 = .ok (.lconst 0, 1) := dk_9 (dk_at dksX1_length_0 13 rfl rfl)
theorem dX1_length_14 : decode cX1_length 14 = .ok (.ldc2_w 242, 3) := dk_20 0 242 (dk_at dksX1_length_0 14 rfl rfl)
theorem dX1_length_17 : decode cX1_length 17 = .ok (.invokestatic 150, 3) := dk_184 0 150 (dk_at dksX1_length_0 17 rfl rfl)
theorem dX1_length_20 : decode cX1_length 20 = .ok (.ifCond .eq 25, 3) := dk_153 0 25 (dk_at dksX1_length_0 20 rfl rfl)
theorem dX1_length_23 : decode cX1_length 23 = .ok (.iload_n 2, 1) := dk_28 (dk_at dksX1_length_0 23 rfl rfl)
theorem dX1_length_24 : decode cX1_length 24 = .ok (.i2l, 1) := dk_133 (dk_at dksX1_length_1 0 rfl rfl)
theorem dX1_length_25 : decode cX1_length 25 = .ok (.lconst 0, 1) := dk_9 (dk_at dksX1_length_1 1 rfl rfl)
theorem dX1_length_26 : decode cX1_length 26 = .ok (.ldc2_w 250, 3) := dk_20 0 250 (dk_at dksX1_length_1 2 rfl rfl)
theorem dX1_length_29 : decode cX1_length 29 = .ok (.invokestatic 150, 3) := dk_184 0 150 (dk_at dksX1_length_1 5 rfl rfl)
theorem dX1_length_32 : decode cX1_length 32 = .ok (.ifCond .eq 13, 3) := dk_153 0 13 (dk_at dksX1_length_1 8 rfl rfl)
theorem dX1_length_35 : decode cX1_length 35 = .ok (.iload_n 3, 1) := dk_29 (dk_at dksX1_length_1 11 rfl rfl)
theorem dX1_length_36 : decode cX1_length 36 = .ok (.i2l, 1) := dk_133 (dk_at dksX1_length_1 12 rfl rfl)
theorem dX1_length_37 : decode cX1_length 37 = .ok (.lconst 0, 1) := dk_9 (dk_at dksX1_length_1 13 rfl rfl)
theorem dX1_length_38 : decode cX1_length 38 = .ok (.lconst 1, 1) := dk_10 (dk_at dksX1_length_1 14 rfl rfl)
theorem dX1_length_39 : decode cX1_length 39 = .ok (.invokestatic 150, 3) := dk_184 0 150 (dk_at dksX1_length_1 15 rfl rfl)
theorem dX1_length_42 : decode cX1_length 42 = .ok (.ifCond .ne 7, 3) := dk_154 0 7 (dk_at dksX1_length_1 18 rfl rfl)
theorem dX1_length_45 : decode cX1_length 45 = .ok (.ldc2_w 358, 3) := dk_20 1 102 (dk_at dksX1_length_1 21 rfl rfl)
theorem dX1_length_48 : decode cX1_length 48 = .ok (.lreturn, 1) := dk_173 (dk_at dksX1_length_2 0 rfl rfl)
theorem dX1_length_49 : decode cX1_length 49 = .ok (.aload_n 0, 1) := dk_42 (dk_at dksX1_length_2 1 rfl rfl)
theorem dX1_length_50 : decode cX1_length 50 = .ok (.iload_n 1, 1) := dk_27 (dk_at dksX1_length_2 2 rfl rfl)
theorem dX1_length_51 : decode cX1_length 51 = .ok (.iload_n 2, 1) := dk_28 (dk_at dksX1_length_2 3 rfl rfl)
theorem dX1_length_52 : decode cX1_length 52 = .ok (.invokevirtual 371, 3) := dk_182 1 115 (dk_at dksX1_length_2 4 rfl rfl)
theorem dX1_length_55 : decode cX1_length 55 = .ok (.iload_n 3, 1) := dk_29 (dk_at dksX1_length_2 7 rfl rfl)
theorem dX1_length_56 : decode cX1_length 56 = .ok (.ifCond .ne 10, 3) := dk_154 0 10 (dk_at dksX1_length_2 8 rfl rfl)
theorem dX1_length_59 : decode cX1_length 59 = .ok (.aload_n 0, 1) := dk_42 (dk_at dksX1_length_2 11 rfl rfl)
theorem dX1_length_60 : decode cX1_length 60 = .ok (.getfield 363, 3) := dk_180 1 107 (dk_at dksX1_length_2 12 rfl rfl)
theorem dX1_length_63 : decode cX1_length 63 = .ok (.goto 7, 3) := dk_167 0 7 (dk_at dksX1_length_2 15 rfl rfl)
theorem dX1_length_66 : decode cX1_length 66 = .ok (.aload_n 0, 1) := dk_42 (dk_at dksX1_length_2 18 rfl rfl)
theorem dX1_length_67 : decode cX1_length 67 = .ok (.getfield 366, 3) := dk_180 1 110 (dk_at dksX1_length_2 19 rfl rfl)
theorem dX1_length_70 : decode cX1_length 70 = .ok (.lreturn, 1) := dk_173 (dk_at dksX1_length_2 22 rfl rfl)
abbrev cX1_measures : ByteArray := prog_14_method_96_code
def yX1_measures : MethodName := ⟨RX1, "measures", "(II)V"⟩
def dkwX1_measures_8 : List UInt8 := [132, 3, 1, 167, 255, 87, 177]
abbrev dktX1_measures_8 : List UInt8 := dkwX1_measures_8 ++ []
def dkwX1_measures_7 : List UInt8 := [55, 9, 42, 89, 180, 1, 107, 22, 9, 109, 181, 1, 107, 42, 89, 180, 1, 110, 22, 9, 109, 181, 1, 110]
abbrev dktX1_measures_7 : List UInt8 := dkwX1_measures_7 ++ dktX1_measures_8
def dkwX1_measures_6 : List UInt8 := [42, 180, 1, 110, 22, 9, 109, 22, 7, 105, 181, 1, 110, 42, 180, 1, 107, 42, 180, 1, 110, 184, 0, 117]
abbrev dktX1_measures_6 : List UInt8 := dkwX1_measures_6 ++ dktX1_measures_7
def dkwX1_measures_5 : List UInt8 := [180, 1, 107, 22, 7, 22, 9, 109, 105, 22, 5, 42, 180, 1, 110, 22, 9, 109, 105, 97, 181, 1, 107, 42]
abbrev dktX1_measures_5 : List UInt8 := dkwX1_measures_5 ++ dktX1_measures_6
def dkwX1_measures_4 : List UInt8 := [4, 29, 184, 0, 81, 133, 105, 55, 7, 42, 180, 1, 110, 22, 7, 184, 0, 117, 55, 9, 42, 42]
abbrev dktX1_measures_4 : List UInt8 := dkwX1_measures_4 ++ dktX1_measures_5
def dkwX1_measures_3 : List UInt8 := [29, 47, 105, 55, 5, 28, 6, 160, 0, 7, 10, 167, 0, 9, 42, 180, 0, 39, 29, 47, 42, 180, 0, 7]
abbrev dktX1_measures_3 : List UInt8 := dkwX1_measures_3 ++ dktX1_measures_4
def dkwX1_measures_2 : List UInt8 := [54, 4, 28, 6, 160, 0, 13, 21, 4, 133, 21, 4, 133, 105, 167, 0, 13, 21, 4, 133, 42, 180, 0, 36]
abbrev dktX1_measures_2 : List UInt8 := dkwX1_measures_2 ++ dktX1_measures_3
def dkwX1_measures_1 : List UInt8 := [42, 180, 0, 7, 4, 46, 162, 0, 165, 42, 180, 0, 7, 16, 45, 16, 6, 27, 104, 96, 29, 96, 46]
abbrev dktX1_measures_1 : List UInt8 := dkwX1_measures_1 ++ dktX1_measures_2
def dkwX1_measures_0 : List UInt8 := [28, 6, 162, 0, 9, 42, 27, 28, 182, 1, 104, 42, 9, 181, 1, 107, 42, 10, 181, 1, 110, 3, 62, 29]
abbrev dktX1_measures_0 : List UInt8 := dkwX1_measures_0 ++ dktX1_measures_1
theorem dksX1_measures_0 : cX1_measures.data.toList.drop 0 = dktX1_measures_0 := by decide +kernel
theorem dksX1_measures_1 : cX1_measures.data.toList.drop 24 = dktX1_measures_1 := dk_seg dksX1_measures_0 24 rfl rfl
theorem dksX1_measures_2 : cX1_measures.data.toList.drop 47 = dktX1_measures_2 := dk_seg dksX1_measures_1 23 rfl rfl
theorem dksX1_measures_3 : cX1_measures.data.toList.drop 71 = dktX1_measures_3 := dk_seg dksX1_measures_2 24 rfl rfl
theorem dksX1_measures_4 : cX1_measures.data.toList.drop 95 = dktX1_measures_4 := dk_seg dksX1_measures_3 24 rfl rfl
theorem dksX1_measures_5 : cX1_measures.data.toList.drop 117 = dktX1_measures_5 := dk_seg dksX1_measures_4 22 rfl rfl
theorem dksX1_measures_6 : cX1_measures.data.toList.drop 141 = dktX1_measures_6 := dk_seg dksX1_measures_5 24 rfl rfl
theorem dksX1_measures_7 : cX1_measures.data.toList.drop 165 = dktX1_measures_7 := dk_seg dksX1_measures_6 24 rfl rfl
theorem dksX1_measures_8 : cX1_measures.data.toList.drop 189 = dktX1_measures_8 := dk_seg dksX1_measures_7 24 rfl rfl
theorem dX1_measures_0 : decode cX1_measures 0 = .ok (.iload_n 2, 1) := dk_28 (dk_at dksX1_measures_0 0 rfl rfl)
theorem dX1_measures_1 : decode cX1_measures 1 = .ok (.iconst 3, 1) := dk_6 (dk_at dksX1_measures_0 1 rfl rfl)
theorem dX1_measures_2 : decode cX1_measures 2 = .ok (.if_icmp .ge 9, 3) := dk_162 0 9 (dk_at dksX1_measures_0 2 rfl rfl)
theorem dX1_measures_5 : decode cX1_measures 5 = .ok (.aload_n 0, 1) := dk_42 (dk_at dksX1_measures_0 5 rfl rfl)
theorem dX1_measures_6 : decode cX1_measures 6 = .ok (.iload_n 1, 1) := dk_27 (dk_at dksX1_measures_0 6 rfl rfl)
theorem dX1_measures_7 : decode cX1_measures 7 = .ok (.iload_n 2, 1) := dk_28 (dk_at dksX1_measures_0 7 rfl rfl)
theorem dX1_measures_8 : decode cX1_measures 8 = .ok (.invokevirtual 360, 3) := dk_182 1 104 (dk_at dksX1_measures_0 8 rfl rfl)
theorem dX1_measures_11 : decode cX1_measures 11 = .ok (.aload_n 0, 1) := dk_42 (dk_at dksX1_measures_0 11 rfl rfl)
theorem dX1_measures_12 : decode cX1_measures 12 = .ok (.lconst 0, 1) := dk_9 (dk_at dksX1_measures_0 12 rfl rfl)
theorem dX1_measures_13 : decode cX1_measures 13 = .ok (.putfield 363, 3) := dk_181 1 107 (dk_at dksX1_measures_0 13 rfl rfl)
theorem dX1_measures_16 : decode cX1_measures 16 = .ok (.aload_n 0, 1) := dk_42 (dk_at dksX1_measures_0 16 rfl rfl)
theorem dX1_measures_17 : decode cX1_measures 17 = .ok (.lconst 1, 1) := dk_10 (dk_at dksX1_measures_0 17 rfl rfl)
theorem dX1_measures_18 : decode cX1_measures 18 = .ok (.putfield 366, 3) := dk_181 1 110 (dk_at dksX1_measures_0 18 rfl rfl)
theorem dX1_measures_21 : decode cX1_measures 21 = .ok (.iconst 0, 1) := dk_3 (dk_at dksX1_measures_0 21 rfl rfl)
theorem dX1_measures_22 : decode cX1_measures 22 = .ok (.istore_n 3, 1) := dk_62 (dk_at dksX1_measures_0 22 rfl rfl)
theorem dX1_measures_23 : decode cX1_measures 23 = .ok (.iload_n 3, 1) := dk_29 (dk_at dksX1_measures_0 23 rfl rfl)
theorem dX1_measures_24 : decode cX1_measures 24 = .ok (.aload_n 0, 1) := dk_42 (dk_at dksX1_measures_1 0 rfl rfl)
theorem dX1_measures_25 : decode cX1_measures 25 = .ok (.getfield 7, 3) := dk_180 0 7 (dk_at dksX1_measures_1 1 rfl rfl)
theorem dX1_measures_28 : decode cX1_measures 28 = .ok (.iconst 1, 1) := dk_4 (dk_at dksX1_measures_1 4 rfl rfl)
theorem dX1_measures_29 : decode cX1_measures 29 = .ok (.iaload, 1) := dk_46 (dk_at dksX1_measures_1 5 rfl rfl)
theorem dX1_measures_30 : decode cX1_measures 30 = .ok (.if_icmp .ge 165, 3) := dk_162 0 165 (dk_at dksX1_measures_1 6 rfl rfl)
theorem dX1_measures_33 : decode cX1_measures 33 = .ok (.aload_n 0, 1) := dk_42 (dk_at dksX1_measures_1 9 rfl rfl)
theorem dX1_measures_34 : decode cX1_measures 34 = .ok (.getfield 7, 3) := dk_180 0 7 (dk_at dksX1_measures_1 10 rfl rfl)
theorem dX1_measures_37 : decode cX1_measures 37 = .ok (.bipush 45, 2) := dk_16 45 (dk_at dksX1_measures_1 13 rfl rfl)
theorem dX1_measures_39 : decode cX1_measures 39 = .ok (.bipush 6, 2) := dk_16 6 (dk_at dksX1_measures_1 15 rfl rfl)
theorem dX1_measures_41 : decode cX1_measures 41 = .ok (.iload_n 1, 1) := dk_27 (dk_at dksX1_measures_1 17 rfl rfl)
theorem dX1_measures_42 : decode cX1_measures 42 = .ok (.imul, 1) := dk_104 (dk_at dksX1_measures_1 18 rfl rfl)
theorem dX1_measures_43 : decode cX1_measures 43 = .ok (.iadd, 1) := dk_96 (dk_at dksX1_measures_1 19 rfl rfl)
theorem dX1_measures_44 : decode cX1_measures 44 = .ok (.iload_n 3, 1) := dk_29 (dk_at dksX1_measures_1 20 rfl rfl)
theorem dX1_measures_45 : decode cX1_measures 45 = .ok (.iadd, 1) := dk_96 (dk_at dksX1_measures_1 21 rfl rfl)
theorem dX1_measures_46 : decode cX1_measures 46 = .ok (.iaload, 1) := dk_46 (dk_at dksX1_measures_1 22 rfl rfl)
theorem dX1_measures_47 : decode cX1_measures 47 = .ok (.istore 4, 2) := dk_54 4 (dk_at dksX1_measures_2 0 rfl rfl)
theorem dX1_measures_49 : decode cX1_measures 49 = .ok (.iload_n 2, 1) := dk_28 (dk_at dksX1_measures_2 2 rfl rfl)
theorem dX1_measures_50 : decode cX1_measures 50 = .ok (.iconst 3, 1) := dk_6 (dk_at dksX1_measures_2 3 rfl rfl)
theorem dX1_measures_51 : decode cX1_measures 51 = .ok (.if_icmp .ne 13, 3) := dk_160 0 13 (dk_at dksX1_measures_2 4 rfl rfl)
theorem dX1_measures_54 : decode cX1_measures 54 = .ok (.iload 4, 2) := dk_21 4 (dk_at dksX1_measures_2 7 rfl rfl)
theorem dX1_measures_56 : decode cX1_measures 56 = .ok (.i2l, 1) := dk_133 (dk_at dksX1_measures_2 9 rfl rfl)
theorem dX1_measures_57 : decode cX1_measures 57 = .ok (.iload 4, 2) := dk_21 4 (dk_at dksX1_measures_2 10 rfl rfl)
theorem dX1_measures_59 : decode cX1_measures 59 = .ok (.i2l, 1) := dk_133 (dk_at dksX1_measures_2 12 rfl rfl)
theorem dX1_measures_60 : decode cX1_measures 60 = .ok (.lmul, 1) := dk_105 (dk_at dksX1_measures_2 13 rfl rfl)
theorem dX1_measures_61 : decode cX1_measures 61 = .ok (.goto 13, 3) := dk_167 0 13 (dk_at dksX1_measures_2 14 rfl rfl)
theorem dX1_measures_64 : decode cX1_measures 64 = .ok (.iload 4, 2) := dk_21 4 (dk_at dksX1_measures_2 17 rfl rfl)
theorem dX1_measures_66 : decode cX1_measures 66 = .ok (.i2l, 1) := dk_133 (dk_at dksX1_measures_2 19 rfl rfl)
theorem dX1_measures_67 : decode cX1_measures 67 = .ok (.aload_n 0, 1) := dk_42 (dk_at dksX1_measures_2 20 rfl rfl)
theorem dX1_measures_68 : decode cX1_measures 68 = .ok (.getfield 36, 3) := dk_180 0 36 (dk_at dksX1_measures_2 21 rfl rfl)
theorem dX1_measures_71 : decode cX1_measures 71 = .ok (.iload_n 3, 1) := dk_29 (dk_at dksX1_measures_3 0 rfl rfl)
theorem dX1_measures_72 : decode cX1_measures 72 = .ok (.laload, 1) := dk_47 (dk_at dksX1_measures_3 1 rfl rfl)
theorem dX1_measures_73 : decode cX1_measures 73 = .ok (.lmul, 1) := dk_105 (dk_at dksX1_measures_3 2 rfl rfl)
theorem dX1_measures_74 : decode cX1_measures 74 = .ok (.lstore 5, 2) := dk_55 5 (dk_at dksX1_measures_3 3 rfl rfl)
theorem dX1_measures_76 : decode cX1_measures 76 = .ok (.iload_n 2, 1) := dk_28 (dk_at dksX1_measures_3 5 rfl rfl)
theorem dX1_measures_77 : decode cX1_measures 77 = .ok (.iconst 3, 1) := dk_6 (dk_at dksX1_measures_3 6 rfl rfl)
theorem dX1_measures_78 : decode cX1_measures 78 = .ok (.if_icmp .ne 7, 3) := dk_160 0 7 (dk_at dksX1_measures_3 7 rfl rfl)
theorem dX1_measures_81 : decode cX1_measures 81 = .ok (.lconst 1, 1) := dk_10 (dk_at dksX1_measures_3 10 rfl rfl)
theorem dX1_measures_82 : decode cX1_measures 82 = .ok (.goto 9, 3) := dk_167 0 9 (dk_at dksX1_measures_3 11 rfl rfl)
theorem dX1_measures_85 : decode cX1_measures 85 = .ok (.aload_n 0, 1) := dk_42 (dk_at dksX1_measures_3 14 rfl rfl)
theorem dX1_measures_86 : decode cX1_measures 86 = .ok (.getfield 39, 3) := dk_180 0 39 (dk_at dksX1_measures_3 15 rfl rfl)
theorem dX1_measures_89 : decode cX1_measures 89 = .ok (.iload_n 3, 1) := dk_29 (dk_at dksX1_measures_3 18 rfl rfl)
theorem dX1_measures_90 : decode cX1_measures 90 = .ok (.laload, 1) := dk_47 (dk_at dksX1_measures_3 19 rfl rfl)
theorem dX1_measures_91 : decode cX1_measures 91 = .ok (.aload_n 0, 1) := dk_42 (dk_at dksX1_measures_3 20 rfl rfl)
theorem dX1_measures_92 : decode cX1_measures 92 = .ok (.getfield 7, 3) := dk_180 0 7 (dk_at dksX1_measures_3 21 rfl rfl)
theorem dX1_measures_95 : decode cX1_measures 95 = .ok (.iconst 1, 1) := dk_4 (dk_at dksX1_measures_4 0 rfl rfl)
theorem dX1_measures_96 : decode cX1_measures 96 = .ok (.iload_n 3, 1) := dk_29 (dk_at dksX1_measures_4 1 rfl rfl)
theorem dX1_measures_97 : decode cX1_measures 97 = .ok (.invokestatic 81, 3) := dk_184 0 81 (dk_at dksX1_measures_4 2 rfl rfl)
theorem dX1_measures_100 : decode cX1_measures 100 = .ok (.i2l, 1) := dk_133 (dk_at dksX1_measures_4 5 rfl rfl)
theorem dX1_measures_101 : decode cX1_measures 101 = .ok (.lmul, 1) := dk_105 (dk_at dksX1_measures_4 6 rfl rfl)
theorem dX1_measures_102 : decode cX1_measures 102 = .ok (.lstore 7, 2) := dk_55 7 (dk_at dksX1_measures_4 7 rfl rfl)
theorem dX1_measures_104 : decode cX1_measures 104 = .ok (.aload_n 0, 1) := dk_42 (dk_at dksX1_measures_4 9 rfl rfl)
theorem dX1_measures_105 : decode cX1_measures 105 = .ok (.getfield 366, 3) := dk_180 1 110 (dk_at dksX1_measures_4 10 rfl rfl)
theorem dX1_measures_108 : decode cX1_measures 108 = .ok (.lload 7, 2) := dk_22 7 (dk_at dksX1_measures_4 13 rfl rfl)
theorem dX1_measures_110 : decode cX1_measures 110 = .ok (.invokestatic 117, 3) := dk_184 0 117 (dk_at dksX1_measures_4 15 rfl rfl)
theorem dX1_measures_113 : decode cX1_measures 113 = .ok (.lstore 9, 2) := dk_55 9 (dk_at dksX1_measures_4 18 rfl rfl)
theorem dX1_measures_115 : decode cX1_measures 115 = .ok (.aload_n 0, 1) := dk_42 (dk_at dksX1_measures_4 20 rfl rfl)
theorem dX1_measures_116 : decode cX1_measures 116 = .ok (.aload_n 0, 1) := dk_42 (dk_at dksX1_measures_4 21 rfl rfl)
theorem dX1_measures_117 : decode cX1_measures 117 = .ok (.getfield 363, 3) := dk_180 1 107 (dk_at dksX1_measures_5 0 rfl rfl)
theorem dX1_measures_120 : decode cX1_measures 120 = .ok (.lload 7, 2) := dk_22 7 (dk_at dksX1_measures_5 3 rfl rfl)
theorem dX1_measures_122 : decode cX1_measures 122 = .ok (.lload 9, 2) := dk_22 9 (dk_at dksX1_measures_5 5 rfl rfl)
theorem dX1_measures_124 : decode cX1_measures 124 = .ok (.ldiv, 1) := dk_109 (dk_at dksX1_measures_5 7 rfl rfl)
theorem dX1_measures_125 : decode cX1_measures 125 = .ok (.lmul, 1) := dk_105 (dk_at dksX1_measures_5 8 rfl rfl)
theorem dX1_measures_126 : decode cX1_measures 126 = .ok (.lload 5, 2) := dk_22 5 (dk_at dksX1_measures_5 9 rfl rfl)
theorem dX1_measures_128 : decode cX1_measures 128 = .ok (.aload_n 0, 1) := dk_42 (dk_at dksX1_measures_5 11 rfl rfl)
theorem dX1_measures_129 : decode cX1_measures 129 = .ok (.getfield 366, 3) := dk_180 1 110 (dk_at dksX1_measures_5 12 rfl rfl)
theorem dX1_measures_132 : decode cX1_measures 132 = .ok (.lload 9, 2) := dk_22 9 (dk_at dksX1_measures_5 15 rfl rfl)
theorem dX1_measures_134 : decode cX1_measures 134 = .ok (.ldiv, 1) := dk_109 (dk_at dksX1_measures_5 17 rfl rfl)
theorem dX1_measures_135 : decode cX1_measures 135 = .ok (.lmul, 1) := dk_105 (dk_at dksX1_measures_5 18 rfl rfl)
theorem dX1_measures_136 : decode cX1_measures 136 = .ok (.ladd, 1) := dk_97 (dk_at dksX1_measures_5 19 rfl rfl)
theorem dX1_measures_137 : decode cX1_measures 137 = .ok (.putfield 363, 3) := dk_181 1 107 (dk_at dksX1_measures_5 20 rfl rfl)
theorem dX1_measures_140 : decode cX1_measures 140 = .ok (.aload_n 0, 1) := dk_42 (dk_at dksX1_measures_5 23 rfl rfl)
theorem dX1_measures_141 : decode cX1_measures 141 = .ok (.aload_n 0, 1) := dk_42 (dk_at dksX1_measures_6 0 rfl rfl)
theorem dX1_measures_142 : decode cX1_measures 142 = .ok (.getfield 366, 3) := dk_180 1 110 (dk_at dksX1_measures_6 1 rfl rfl)
theorem dX1_measures_145 : decode cX1_measures 145 = .ok (.lload 9, 2) := dk_22 9 (dk_at dksX1_measures_6 4 rfl rfl)
theorem dX1_measures_147 : decode cX1_measures 147 = .ok (.ldiv, 1) := dk_109 (dk_at dksX1_measures_6 6 rfl rfl)
theorem dX1_measures_148 : decode cX1_measures 148 = .ok (.lload 7, 2) := dk_22 7 (dk_at dksX1_measures_6 7 rfl rfl)
theorem dX1_measures_150 : decode cX1_measures 150 = .ok (.lmul, 1) := dk_105 (dk_at dksX1_measures_6 9 rfl rfl)
theorem dX1_measures_151 : decode cX1_measures 151 = .ok (.putfield 366, 3) := dk_181 1 110 (dk_at dksX1_measures_6 10 rfl rfl)
theorem dX1_measures_154 : decode cX1_measures 154 = .ok (.aload_n 0, 1) := dk_42 (dk_at dksX1_measures_6 13 rfl rfl)
theorem dX1_measures_155 : decode cX1_measures 155 = .ok (.getfield 363, 3) := dk_180 1 107 (dk_at dksX1_measures_6 14 rfl rfl)
theorem dX1_measures_158 : decode cX1_measures 158 = .ok (.aload_n 0, 1) := dk_42 (dk_at dksX1_measures_6 17 rfl rfl)
theorem dX1_measures_159 : decode cX1_measures 159 = .ok (.getfield 366, 3) := dk_180 1 110 (dk_at dksX1_measures_6 18 rfl rfl)
theorem dX1_measures_162 : decode cX1_measures 162 = .ok (.invokestatic 117, 3) := dk_184 0 117 (dk_at dksX1_measures_6 21 rfl rfl)
theorem dX1_measures_165 : decode cX1_measures 165 = .ok (.lstore 9, 2) := dk_55 9 (dk_at dksX1_measures_7 0 rfl rfl)
theorem dX1_measures_167 : decode cX1_measures 167 = .ok (.aload_n 0, 1) := dk_42 (dk_at dksX1_measures_7 2 rfl rfl)
theorem dX1_measures_168 : decode cX1_measures 168 = .ok (.dup, 1) := dk_89 (dk_at dksX1_measures_7 3 rfl rfl)
theorem dX1_measures_169 : decode cX1_measures 169 = .ok (.getfield 363, 3) := dk_180 1 107 (dk_at dksX1_measures_7 4 rfl rfl)
theorem dX1_measures_172 : decode cX1_measures 172 = .ok (.lload 9, 2) := dk_22 9 (dk_at dksX1_measures_7 7 rfl rfl)
theorem dX1_measures_174 : decode cX1_measures 174 = .ok (.ldiv, 1) := dk_109 (dk_at dksX1_measures_7 9 rfl rfl)
theorem dX1_measures_175 : decode cX1_measures 175 = .ok (.putfield 363, 3) := dk_181 1 107 (dk_at dksX1_measures_7 10 rfl rfl)
theorem dX1_measures_178 : decode cX1_measures 178 = .ok (.aload_n 0, 1) := dk_42 (dk_at dksX1_measures_7 13 rfl rfl)
theorem dX1_measures_179 : decode cX1_measures 179 = .ok (.dup, 1) := dk_89 (dk_at dksX1_measures_7 14 rfl rfl)
theorem dX1_measures_180 : decode cX1_measures 180 = .ok (.getfield 366, 3) := dk_180 1 110 (dk_at dksX1_measures_7 15 rfl rfl)
theorem dX1_measures_183 : decode cX1_measures 183 = .ok (.lload 9, 2) := dk_22 9 (dk_at dksX1_measures_7 18 rfl rfl)
theorem dX1_measures_185 : decode cX1_measures 185 = .ok (.ldiv, 1) := dk_109 (dk_at dksX1_measures_7 20 rfl rfl)
theorem dX1_measures_186 : decode cX1_measures 186 = .ok (.putfield 366, 3) := dk_181 1 110 (dk_at dksX1_measures_7 21 rfl rfl)
theorem dX1_measures_189 : decode cX1_measures 189 = .ok (.iinc 3 1, 3) := dk_132 3 1 (dk_at dksX1_measures_8 0 rfl rfl)
theorem dX1_measures_192 : decode cX1_measures 192 = .ok (.goto (-169), 3) := dk_167 255 87 (dk_at dksX1_measures_8 3 rfl rfl)
theorem dX1_measures_195 : decode cX1_measures 195 = .ok (.return_, 1) := dk_177 (dk_at dksX1_measures_8 6 rfl rfl)
abbrev cX1_share : ByteArray := prog_14_method_98_code
def yX1_share : MethodName := ⟨RX1, "share", "(II)I"⟩
def dkwX1_share_5 : List UInt8 := [55, 13, 22, 11, 137, 22, 13, 137, 110, 19, 1, 118, 106, 139, 172]
abbrev dktX1_share_5 : List UInt8 := dkwX1_share_5 ++ []
def dkwX1_share_4 : List UInt8 := [22, 7, 109, 33, 22, 9, 109, 105, 55, 11, 22, 5, 22, 7, 109, 42, 180, 1, 110, 22, 9, 109, 105]
abbrev dktX1_share_4 : List UInt8 := dkwX1_share_4 ++ dktX1_share_5
def dkwX1_share_3 : List UInt8 := [180, 1, 107, 22, 5, 184, 0, 117, 55, 7, 33, 42, 180, 1, 110, 184, 0, 117, 55, 9, 42, 180, 1, 107]
abbrev dktX1_share_3 : List UInt8 := dkwX1_share_3 ++ dktX1_share_4
def dkwX1_share_2 : List UInt8 := [42, 27, 6, 182, 1, 115, 42, 180, 1, 110, 66, 42, 180, 1, 107, 55, 5, 42, 27, 28, 182, 1, 115, 42]
abbrev dktX1_share_2 : List UInt8 := dkwX1_share_2 ++ dktX1_share_3
def dkwX1_share_1 : List UInt8 := [9, 20, 0, 242, 184, 0, 150, 154, 0, 6, 18, 218, 172, 42, 27, 182, 1, 17, 154, 0, 6, 18, 241, 172]
abbrev dktX1_share_1 : List UInt8 := dkwX1_share_1 ++ dktX1_share_2
def dkwX1_share_0 : List UInt8 := [42, 182, 0, 244, 154, 0, 6, 18, 241, 172, 27, 133, 9, 20, 0, 242, 184, 0, 150, 153, 0, 15, 28, 133]
abbrev dktX1_share_0 : List UInt8 := dkwX1_share_0 ++ dktX1_share_1
theorem dksX1_share_0 : cX1_share.data.toList.drop 0 = dktX1_share_0 := by decide +kernel
theorem dksX1_share_1 : cX1_share.data.toList.drop 24 = dktX1_share_1 := dk_seg dksX1_share_0 24 rfl rfl
theorem dksX1_share_2 : cX1_share.data.toList.drop 48 = dktX1_share_2 := dk_seg dksX1_share_1 24 rfl rfl
theorem dksX1_share_3 : cX1_share.data.toList.drop 72 = dktX1_share_3 := dk_seg dksX1_share_2 24 rfl rfl
theorem dksX1_share_4 : cX1_share.data.toList.drop 96 = dktX1_share_4 := dk_seg dksX1_share_3 24 rfl rfl
theorem dksX1_share_5 : cX1_share.data.toList.drop 119 = dktX1_share_5 := dk_seg dksX1_share_4 23 rfl rfl
theorem dX1_share_0 : decode cX1_share 0 = .ok (.aload_n 0, 1) := dk_42 (dk_at dksX1_share_0 0 rfl rfl)
theorem dX1_share_1 : decode cX1_share 1 = .ok (.invokevirtual 244, 3) := dk_182 0 244 (dk_at dksX1_share_0 1 rfl rfl)
theorem dX1_share_4 : decode cX1_share 4 = .ok (.ifCond .ne 6, 3) := dk_154 0 6 (dk_at dksX1_share_0 4 rfl rfl)
theorem dX1_share_7 : decode cX1_share 7 = .ok (.ldc 241, 2) := dk_18 241 (dk_at dksX1_share_0 7 rfl rfl)
theorem dX1_share_9 : decode cX1_share 9 = .ok (.ireturn, 1) := dk_172 (dk_at dksX1_share_0 9 rfl rfl)
theorem dX1_share_10 : decode cX1_share 10 = .ok (.iload_n 1, 1) := dk_27 (dk_at dksX1_share_0 10 rfl rfl)
theorem dX1_share_11 : decode cX1_share 11 = .ok (.i2l, 1) := dk_133 (dk_at dksX1_share_0 11 rfl rfl)
theorem dX1_share_12 : decode cX1_share 12 = .ok (.lconst 0, 1) := dk_9 (dk_at dksX1_share_0 12 rfl rfl)
theorem dX1_share_13 : decode cX1_share 13 = .ok (.ldc2_w 242, 3) := dk_20 0 242 (dk_at dksX1_share_0 13 rfl rfl)
theorem dX1_share_16 : decode cX1_share 16 = .ok (.invokestatic 150, 3) := dk_184 0 150 (dk_at dksX1_share_0 16 rfl rfl)
theorem dX1_share_19 : decode cX1_share 19 = .ok (.ifCond .eq 15, 3) := dk_153 0 15 (dk_at dksX1_share_0 19 rfl rfl)
theorem dX1_share_22 : decode cX1_share 22 = .ok (.iload_n 2, 1) := dk_28 (dk_at dksX1_share_0 22 rfl rfl)
theorem dX1_share_23 : decode cX1_share 23 = .ok (.i2l, 1) := dk_133 (dk_at dksX1_share_0 23 rfl rfl)
theorem dX1_share_24 : decode cX1_share 24 = .ok (.lconst 0, 1) := dk_9 (dk_at dksX1_share_1 0 rfl rfl)
theorem dX1_share_25 : decode cX1_share 25 = .ok (.ldc2_w 242, 3) := dk_20 0 242 (dk_at dksX1_share_1 1 rfl rfl)
theorem dX1_share_28 : decode cX1_share 28 = .ok (.invokestatic 150, 3) := dk_184 0 150 (dk_at dksX1_share_1 4 rfl rfl)
theorem dX1_share_31 : decode cX1_share 31 = .ok (.ifCond .ne 6, 3) := dk_154 0 6 (dk_at dksX1_share_1 7 rfl rfl)
theorem dX1_share_34 : decode cX1_share 34 = .ok (.ldc 218, 2) := dk_18 218 (dk_at dksX1_share_1 10 rfl rfl)
theorem dX1_share_36 : decode cX1_share 36 = .ok (.ireturn, 1) := dk_172 (dk_at dksX1_share_1 12 rfl rfl)
theorem dX1_share_37 : decode cX1_share 37 = .ok (.aload_n 0, 1) := dk_42 (dk_at dksX1_share_1 13 rfl rfl)
theorem dX1_share_38 : decode cX1_share 38 = .ok (.iload_n 1, 1) := dk_27 (dk_at dksX1_share_1 14 rfl rfl)
theorem dX1_share_39 : decode cX1_share 39 = .ok (.invokevirtual 273, 3) := dk_182 1 17 (dk_at dksX1_share_1 15 rfl rfl)
theorem dX1_share_42 : decode cX1_share 42 = .ok (.ifCond .ne 6, 3) := dk_154 0 6 (dk_at dksX1_share_1 18 rfl rfl)
theorem dX1_share_45 : decode cX1_share 45 = .ok (.ldc 241, 2) := dk_18 241 (dk_at dksX1_share_1 21 rfl rfl)
theorem dX1_share_47 : decode cX1_share 47 = .ok (.ireturn, 1) := dk_172 (dk_at dksX1_share_1 23 rfl rfl)
theorem dX1_share_48 : decode cX1_share 48 = .ok (.aload_n 0, 1) := dk_42 (dk_at dksX1_share_2 0 rfl rfl)
theorem dX1_share_49 : decode cX1_share 49 = .ok (.iload_n 1, 1) := dk_27 (dk_at dksX1_share_2 1 rfl rfl)
theorem dX1_share_50 : decode cX1_share 50 = .ok (.iconst 3, 1) := dk_6 (dk_at dksX1_share_2 2 rfl rfl)
theorem dX1_share_51 : decode cX1_share 51 = .ok (.invokevirtual 371, 3) := dk_182 1 115 (dk_at dksX1_share_2 3 rfl rfl)
theorem dX1_share_54 : decode cX1_share 54 = .ok (.aload_n 0, 1) := dk_42 (dk_at dksX1_share_2 6 rfl rfl)
theorem dX1_share_55 : decode cX1_share 55 = .ok (.getfield 366, 3) := dk_180 1 110 (dk_at dksX1_share_2 7 rfl rfl)
theorem dX1_share_58 : decode cX1_share 58 = .ok (.lstore_n 3, 1) := dk_66 (dk_at dksX1_share_2 10 rfl rfl)
theorem dX1_share_59 : decode cX1_share 59 = .ok (.aload_n 0, 1) := dk_42 (dk_at dksX1_share_2 11 rfl rfl)
theorem dX1_share_60 : decode cX1_share 60 = .ok (.getfield 363, 3) := dk_180 1 107 (dk_at dksX1_share_2 12 rfl rfl)
theorem dX1_share_63 : decode cX1_share 63 = .ok (.lstore 5, 2) := dk_55 5 (dk_at dksX1_share_2 15 rfl rfl)
theorem dX1_share_65 : decode cX1_share 65 = .ok (.aload_n 0, 1) := dk_42 (dk_at dksX1_share_2 17 rfl rfl)
theorem dX1_share_66 : decode cX1_share 66 = .ok (.iload_n 1, 1) := dk_27 (dk_at dksX1_share_2 18 rfl rfl)
theorem dX1_share_67 : decode cX1_share 67 = .ok (.iload_n 2, 1) := dk_28 (dk_at dksX1_share_2 19 rfl rfl)
theorem dX1_share_68 : decode cX1_share 68 = .ok (.invokevirtual 371, 3) := dk_182 1 115 (dk_at dksX1_share_2 20 rfl rfl)
theorem dX1_share_71 : decode cX1_share 71 = .ok (.aload_n 0, 1) := dk_42 (dk_at dksX1_share_2 23 rfl rfl)
theorem dX1_share_72 : decode cX1_share 72 = .ok (.getfield 363, 3) := dk_180 1 107 (dk_at dksX1_share_3 0 rfl rfl)
theorem dX1_share_75 : decode cX1_share 75 = .ok (.lload 5, 2) := dk_22 5 (dk_at dksX1_share_3 3 rfl rfl)
theorem dX1_share_77 : decode cX1_share 77 = .ok (.invokestatic 117, 3) := dk_184 0 117 (dk_at dksX1_share_3 5 rfl rfl)
theorem dX1_share_80 : decode cX1_share 80 = .ok (.lstore 7, 2) := dk_55 7 (dk_at dksX1_share_3 8 rfl rfl)
theorem dX1_share_82 : decode cX1_share 82 = .ok (.lload_n 3, 1) := dk_33 (dk_at dksX1_share_3 10 rfl rfl)
theorem dX1_share_83 : decode cX1_share 83 = .ok (.aload_n 0, 1) := dk_42 (dk_at dksX1_share_3 11 rfl rfl)
theorem dX1_share_84 : decode cX1_share 84 = .ok (.getfield 366, 3) := dk_180 1 110 (dk_at dksX1_share_3 12 rfl rfl)
theorem dX1_share_87 : decode cX1_share 87 = .ok (.invokestatic 117, 3) := dk_184 0 117 (dk_at dksX1_share_3 15 rfl rfl)
theorem dX1_share_90 : decode cX1_share 90 = .ok (.lstore 9, 2) := dk_55 9 (dk_at dksX1_share_3 18 rfl rfl)
theorem dX1_share_92 : decode cX1_share 92 = .ok (.aload_n 0, 1) := dk_42 (dk_at dksX1_share_3 20 rfl rfl)
theorem dX1_share_93 : decode cX1_share 93 = .ok (.getfield 363, 3) := dk_180 1 107 (dk_at dksX1_share_3 21 rfl rfl)
theorem dX1_share_96 : decode cX1_share 96 = .ok (.lload 7, 2) := dk_22 7 (dk_at dksX1_share_4 0 rfl rfl)
theorem dX1_share_98 : decode cX1_share 98 = .ok (.ldiv, 1) := dk_109 (dk_at dksX1_share_4 2 rfl rfl)
theorem dX1_share_99 : decode cX1_share 99 = .ok (.lload_n 3, 1) := dk_33 (dk_at dksX1_share_4 3 rfl rfl)
theorem dX1_share_100 : decode cX1_share 100 = .ok (.lload 9, 2) := dk_22 9 (dk_at dksX1_share_4 4 rfl rfl)
theorem dX1_share_102 : decode cX1_share 102 = .ok (.ldiv, 1) := dk_109 (dk_at dksX1_share_4 6 rfl rfl)
theorem dX1_share_103 : decode cX1_share 103 = .ok (.lmul, 1) := dk_105 (dk_at dksX1_share_4 7 rfl rfl)
theorem dX1_share_104 : decode cX1_share 104 = .ok (.lstore 11, 2) := dk_55 11 (dk_at dksX1_share_4 8 rfl rfl)
theorem dX1_share_106 : decode cX1_share 106 = .ok (.lload 5, 2) := dk_22 5 (dk_at dksX1_share_4 10 rfl rfl)
theorem dX1_share_108 : decode cX1_share 108 = .ok (.lload 7, 2) := dk_22 7 (dk_at dksX1_share_4 12 rfl rfl)
theorem dX1_share_110 : decode cX1_share 110 = .ok (.ldiv, 1) := dk_109 (dk_at dksX1_share_4 14 rfl rfl)
theorem dX1_share_111 : decode cX1_share 111 = .ok (.aload_n 0, 1) := dk_42 (dk_at dksX1_share_4 15 rfl rfl)
theorem dX1_share_112 : decode cX1_share 112 = .ok (.getfield 366, 3) := dk_180 1 110 (dk_at dksX1_share_4 16 rfl rfl)
theorem dX1_share_115 : decode cX1_share 115 = .ok (.lload 9, 2) := dk_22 9 (dk_at dksX1_share_4 19 rfl rfl)
theorem dX1_share_117 : decode cX1_share 117 = .ok (.ldiv, 1) := dk_109 (dk_at dksX1_share_4 21 rfl rfl)
theorem dX1_share_118 : decode cX1_share 118 = .ok (.lmul, 1) := dk_105 (dk_at dksX1_share_4 22 rfl rfl)
theorem dX1_share_119 : decode cX1_share 119 = .ok (.lstore 13, 2) := dk_55 13 (dk_at dksX1_share_5 0 rfl rfl)
theorem dX1_share_121 : decode cX1_share 121 = .ok (.lload 11, 2) := dk_22 11 (dk_at dksX1_share_5 2 rfl rfl)
theorem dX1_share_123 : decode cX1_share 123 = .ok (.l2f, 1) := dk_137 (dk_at dksX1_share_5 4 rfl rfl)
theorem dX1_share_124 : decode cX1_share 124 = .ok (.lload 13, 2) := dk_22 13 (dk_at dksX1_share_5 5 rfl rfl)
theorem dX1_share_126 : decode cX1_share 126 = .ok (.l2f, 1) := dk_137 (dk_at dksX1_share_5 7 rfl rfl)
theorem dX1_share_127 : decode cX1_share 127 = .ok (.fdiv, 1) := dk_110 (dk_at dksX1_share_5 8 rfl rfl)
theorem dX1_share_128 : decode cX1_share 128 = .ok (.ldc_w 374, 3) := dk_19 1 118 (dk_at dksX1_share_5 9 rfl rfl)
theorem dX1_share_131 : decode cX1_share 131 = .ok (.fmul, 1) := dk_106 (dk_at dksX1_share_5 12 rfl rfl)
theorem dX1_share_132 : decode cX1_share 132 = .ok (.f2i, 1) := dk_139 (dk_at dksX1_share_5 13 rfl rfl)
theorem dX1_share_133 : decode cX1_share 133 = .ok (.ireturn, 1) := dk_172 (dk_at dksX1_share_5 14 rfl rfl)
abbrev cX1_trees : ByteArray := prog_14_method_100_code
def yX1_trees : MethodName := ⟨RX1, "trees", "(II)J"⟩
def dkwX1_trees_4 : List UInt8 := [182, 1, 119, 97, 55, 4, 132, 6, 1, 167, 255, 202, 22, 4, 173]
abbrev dktX1_trees_4 : List UInt8 := dkwX1_trees_4 ++ []
def dkwX1_trees_3 : List UInt8 := [21, 6, 3, 182, 0, 127, 29, 160, 0, 23, 22, 4, 28, 154, 0, 7, 10, 167, 0, 10, 42, 27, 21, 6]
abbrev dktX1_trees_3 : List UInt8 := dkwX1_trees_3 ++ dktX1_trees_4
def dkwX1_trees_2 : List UInt8 := [54, 6, 21, 6, 42, 27, 182, 0, 124, 163, 0, 50, 21, 6, 184, 0, 99, 29, 160, 0, 35, 42, 27]
abbrev dktX1_trees_2 : List UInt8 := dkwX1_trees_2 ++ dktX1_trees_3
def dkwX1_trees_1 : List UInt8 := [133, 9, 10, 184, 0, 150, 154, 0, 7, 20, 1, 102, 173, 42, 27, 182, 1, 47, 62, 9, 55, 4, 3]
abbrev dktX1_trees_1 : List UInt8 := dkwX1_trees_1 ++ dktX1_trees_2
def dkwX1_trees_0 : List UInt8 := [42, 182, 0, 244, 154, 0, 7, 20, 1, 113, 173, 27, 133, 10, 20, 0, 242, 184, 0, 150, 153, 0, 13, 28]
abbrev dktX1_trees_0 : List UInt8 := dkwX1_trees_0 ++ dktX1_trees_1
theorem dksX1_trees_0 : cX1_trees.data.toList.drop 0 = dktX1_trees_0 := by decide +kernel
theorem dksX1_trees_1 : cX1_trees.data.toList.drop 24 = dktX1_trees_1 := dk_seg dksX1_trees_0 24 rfl rfl
theorem dksX1_trees_2 : cX1_trees.data.toList.drop 47 = dktX1_trees_2 := dk_seg dksX1_trees_1 23 rfl rfl
theorem dksX1_trees_3 : cX1_trees.data.toList.drop 70 = dktX1_trees_3 := dk_seg dksX1_trees_2 23 rfl rfl
theorem dksX1_trees_4 : cX1_trees.data.toList.drop 94 = dktX1_trees_4 := dk_seg dksX1_trees_3 24 rfl rfl
theorem dX1_trees_0 : decode cX1_trees 0 = .ok (.aload_n 0, 1) := dk_42 (dk_at dksX1_trees_0 0 rfl rfl)
theorem dX1_trees_1 : decode cX1_trees 1 = .ok (.invokevirtual 244, 3) := dk_182 0 244 (dk_at dksX1_trees_0 1 rfl rfl)
theorem dX1_trees_4 : decode cX1_trees 4 = .ok (.ifCond .ne 7, 3) := dk_154 0 7 (dk_at dksX1_trees_0 4 rfl rfl)
theorem dX1_trees_7 : decode cX1_trees 7 = .ok (.ldc2_w 369, 3) := dk_20 1 113 (dk_at dksX1_trees_0 7 rfl rfl)
theorem dX1_trees_10 : decode cX1_trees 10 = .ok (.lreturn, 1) := dk_173 (dk_at dksX1_trees_0 10 rfl rfl)
theorem dX1_trees_11 : decode cX1_trees 11 = .ok (.iload_n 1, 1) := dk_27 (dk_at dksX1_trees_0 11 rfl rfl)
theorem dX1_trees_12 : decode cX1_trees 12 = .ok (.i2l, 1) := dk_133 (dk_at dksX1_trees_0 12 rfl rfl)
theorem dX1_trees_13 : decode cX1_trees 13 = .ok (.lconst 1, 1) := dk_10 (dk_at dksX1_trees_0 13 rfl rfl)
theorem dX1_trees_14 : decode cX1_trees 14 = .ok (.ldc2_w 242, 3) := dk_20 0 242 (dk_at dksX1_trees_0 14 rfl rfl)
theorem dX1_trees_17 : decode cX1_trees 17 = .ok (.invokestatic 150, 3) := dk_184 0 150 (dk_at dksX1_trees_0 17 rfl rfl)
theorem dX1_trees_20 : decode cX1_trees 20 = .ok (.ifCond .eq 13, 3) := dk_153 0 13 (dk_at dksX1_trees_0 20 rfl rfl)
theorem dX1_trees_23 : decode cX1_trees 23 = .ok (.iload_n 2, 1) := dk_28 (dk_at dksX1_trees_0 23 rfl rfl)
theorem dX1_trees_24 : decode cX1_trees 24 = .ok (.i2l, 1) := dk_133 (dk_at dksX1_trees_1 0 rfl rfl)
theorem dX1_trees_25 : decode cX1_trees 25 = .ok (.lconst 0, 1) := dk_9 (dk_at dksX1_trees_1 1 rfl rfl)
theorem dX1_trees_26 : decode cX1_trees 26 = .ok (.lconst 1, 1) := dk_10 (dk_at dksX1_trees_1 2 rfl rfl)
theorem dX1_trees_27 : decode cX1_trees 27 = .ok (.invokestatic 150, 3) := dk_184 0 150 (dk_at dksX1_trees_1 3 rfl rfl)
theorem dX1_trees_30 : decode cX1_trees 30 = .ok (.ifCond .ne 7, 3) := dk_154 0 7 (dk_at dksX1_trees_1 6 rfl rfl)
theorem dX1_trees_33 : decode cX1_trees 33 = .ok (.ldc2_w 358, 3) := dk_20 1 102 (dk_at dksX1_trees_1 9 rfl rfl)
theorem dX1_trees_36 : decode cX1_trees 36 = .ok (.lreturn, 1) := dk_173 (dk_at dksX1_trees_1 12 rfl rfl)
theorem dX1_trees_37 : decode cX1_trees 37 = .ok (.aload_n 0, 1) := dk_42 (dk_at dksX1_trees_1 13 rfl rfl)
theorem dX1_trees_38 : decode cX1_trees 38 = .ok (.iload_n 1, 1) := dk_27 (dk_at dksX1_trees_1 14 rfl rfl)
theorem dX1_trees_39 : decode cX1_trees 39 = .ok (.invokevirtual 303, 3) := dk_182 1 47 (dk_at dksX1_trees_1 15 rfl rfl)
theorem dX1_trees_42 : decode cX1_trees 42 = .ok (.istore_n 3, 1) := dk_62 (dk_at dksX1_trees_1 18 rfl rfl)
theorem dX1_trees_43 : decode cX1_trees 43 = .ok (.lconst 0, 1) := dk_9 (dk_at dksX1_trees_1 19 rfl rfl)
theorem dX1_trees_44 : decode cX1_trees 44 = .ok (.lstore 4, 2) := dk_55 4 (dk_at dksX1_trees_1 20 rfl rfl)
theorem dX1_trees_46 : decode cX1_trees 46 = .ok (.iconst 0, 1) := dk_3 (dk_at dksX1_trees_1 22 rfl rfl)
theorem dX1_trees_47 : decode cX1_trees 47 = .ok (.istore 6, 2) := dk_54 6 (dk_at dksX1_trees_2 0 rfl rfl)
theorem dX1_trees_49 : decode cX1_trees 49 = .ok (.iload 6, 2) := dk_21 6 (dk_at dksX1_trees_2 2 rfl rfl)
theorem dX1_trees_51 : decode cX1_trees 51 = .ok (.aload_n 0, 1) := dk_42 (dk_at dksX1_trees_2 4 rfl rfl)
theorem dX1_trees_52 : decode cX1_trees 52 = .ok (.iload_n 1, 1) := dk_27 (dk_at dksX1_trees_2 5 rfl rfl)
theorem dX1_trees_53 : decode cX1_trees 53 = .ok (.invokevirtual 124, 3) := dk_182 0 124 (dk_at dksX1_trees_2 6 rfl rfl)
theorem dX1_trees_56 : decode cX1_trees 56 = .ok (.if_icmp .gt 50, 3) := dk_163 0 50 (dk_at dksX1_trees_2 9 rfl rfl)
theorem dX1_trees_59 : decode cX1_trees 59 = .ok (.iload 6, 2) := dk_21 6 (dk_at dksX1_trees_2 12 rfl rfl)
theorem dX1_trees_61 : decode cX1_trees 61 = .ok (.invokestatic 99, 3) := dk_184 0 99 (dk_at dksX1_trees_2 14 rfl rfl)
theorem dX1_trees_64 : decode cX1_trees 64 = .ok (.iload_n 3, 1) := dk_29 (dk_at dksX1_trees_2 17 rfl rfl)
theorem dX1_trees_65 : decode cX1_trees 65 = .ok (.if_icmp .ne 35, 3) := dk_160 0 35 (dk_at dksX1_trees_2 18 rfl rfl)
theorem dX1_trees_68 : decode cX1_trees 68 = .ok (.aload_n 0, 1) := dk_42 (dk_at dksX1_trees_2 21 rfl rfl)
theorem dX1_trees_69 : decode cX1_trees 69 = .ok (.iload_n 1, 1) := dk_27 (dk_at dksX1_trees_2 22 rfl rfl)
theorem dX1_trees_70 : decode cX1_trees 70 = .ok (.iload 6, 2) := dk_21 6 (dk_at dksX1_trees_3 0 rfl rfl)
theorem dX1_trees_72 : decode cX1_trees 72 = .ok (.iconst 0, 1) := dk_3 (dk_at dksX1_trees_3 2 rfl rfl)
theorem dX1_trees_73 : decode cX1_trees 73 = .ok (.invokevirtual 127, 3) := dk_182 0 127 (dk_at dksX1_trees_3 3 rfl rfl)
theorem dX1_trees_76 : decode cX1_trees 76 = .ok (.iload_n 3, 1) := dk_29 (dk_at dksX1_trees_3 6 rfl rfl)
theorem dX1_trees_77 : decode cX1_trees 77 = .ok (.if_icmp .ne 23, 3) := dk_160 0 23 (dk_at dksX1_trees_3 7 rfl rfl)
theorem dX1_trees_80 : decode cX1_trees 80 = .ok (.lload 4, 2) := dk_22 4 (dk_at dksX1_trees_3 10 rfl rfl)
theorem dX1_trees_82 : decode cX1_trees 82 = .ok (.iload_n 2, 1) := dk_28 (dk_at dksX1_trees_3 12 rfl rfl)
theorem dX1_trees_83 : decode cX1_trees 83 = .ok (.ifCond .ne 7, 3) := dk_154 0 7 (dk_at dksX1_trees_3 13 rfl rfl)
theorem dX1_trees_86 : decode cX1_trees 86 = .ok (.lconst 1, 1) := dk_10 (dk_at dksX1_trees_3 16 rfl rfl)
theorem dX1_trees_87 : decode cX1_trees 87 = .ok (.goto 10, 3) := dk_167 0 10 (dk_at dksX1_trees_3 17 rfl rfl)
theorem dX1_trees_90 : decode cX1_trees 90 = .ok (.aload_n 0, 1) := dk_42 (dk_at dksX1_trees_3 20 rfl rfl)
theorem dX1_trees_91 : decode cX1_trees 91 = .ok (.iload_n 1, 1) := dk_27 (dk_at dksX1_trees_3 21 rfl rfl)
theorem dX1_trees_92 : decode cX1_trees 92 = .ok (.iload 6, 2) := dk_21 6 (dk_at dksX1_trees_3 22 rfl rfl)
theorem dX1_trees_94 : decode cX1_trees 94 = .ok (.invokevirtual 375, 3) := dk_182 1 119 (dk_at dksX1_trees_4 0 rfl rfl)
theorem dX1_trees_97 : decode cX1_trees 97 = .ok (.ladd, 1) := dk_97 (dk_at dksX1_trees_4 3 rfl rfl)
theorem dX1_trees_98 : decode cX1_trees 98 = .ok (.lstore 4, 2) := dk_55 4 (dk_at dksX1_trees_4 4 rfl rfl)
theorem dX1_trees_100 : decode cX1_trees 100 = .ok (.iinc 6 1, 3) := dk_132 6 1 (dk_at dksX1_trees_4 6 rfl rfl)
theorem dX1_trees_103 : decode cX1_trees 103 = .ok (.goto (-54), 3) := dk_167 255 202 (dk_at dksX1_trees_4 9 rfl rfl)
theorem dX1_trees_106 : decode cX1_trees 106 = .ok (.lload 4, 2) := dk_22 4 (dk_at dksX1_trees_4 12 rfl rfl)
theorem dX1_trees_108 : decode cX1_trees 108 = .ok (.lreturn, 1) := dk_173 (dk_at dksX1_trees_4 14 rfl rfl)
abbrev cX1_counts : ByteArray := prog_14_method_99_code
def yX1_counts : MethodName := ⟨RX1, "counts", "(II)J"⟩
def dkwX1_counts_3 : List UInt8 := [55, 5, 33, 22, 5, 105, 22, 5, 105, 173]
abbrev dktX1_counts_3 : List UInt8 := dkwX1_counts_3 ++ []
def dkwX1_counts_2 : List UInt8 := [167, 255, 216, 27, 5, 160, 0, 17, 42, 5, 28, 28, 184, 0, 99, 3, 182, 0, 121, 167, 0, 4, 10]
abbrev dktX1_counts_2 : List UInt8 := dkwX1_counts_2 ++ dktX1_counts_3
def dkwX1_counts_1 : List UInt8 := [153, 0, 17, 42, 180, 0, 7, 27, 21, 5, 184, 0, 81, 133, 167, 0, 4, 10, 105, 66, 132, 5, 1]
abbrev dktX1_counts_1 : List UInt8 := dkwX1_counts_1 ++ dktX1_counts_2
def dkwX1_counts_0 : List UInt8 := [10, 66, 3, 54, 5, 21, 5, 42, 27, 182, 0, 74, 162, 0, 36, 33, 28, 21, 5, 184, 0, 48]
abbrev dktX1_counts_0 : List UInt8 := dkwX1_counts_0 ++ dktX1_counts_1
theorem dksX1_counts_0 : cX1_counts.data.toList.drop 0 = dktX1_counts_0 := by decide +kernel
theorem dksX1_counts_1 : cX1_counts.data.toList.drop 22 = dktX1_counts_1 := dk_seg dksX1_counts_0 22 rfl rfl
theorem dksX1_counts_2 : cX1_counts.data.toList.drop 45 = dktX1_counts_2 := dk_seg dksX1_counts_1 23 rfl rfl
theorem dksX1_counts_3 : cX1_counts.data.toList.drop 68 = dktX1_counts_3 := dk_seg dksX1_counts_2 23 rfl rfl
theorem dX1_counts_0 : decode cX1_counts 0 = .ok (.lconst 1, 1) := dk_10 (dk_at dksX1_counts_0 0 rfl rfl)
theorem dX1_counts_1 : decode cX1_counts 1 = .ok (.lstore_n 3, 1) := dk_66 (dk_at dksX1_counts_0 1 rfl rfl)
theorem dX1_counts_2 : decode cX1_counts 2 = .ok (.iconst 0, 1) := dk_3 (dk_at dksX1_counts_0 2 rfl rfl)
theorem dX1_counts_3 : decode cX1_counts 3 = .ok (.istore 5, 2) := dk_54 5 (dk_at dksX1_counts_0 3 rfl rfl)
theorem dX1_counts_5 : decode cX1_counts 5 = .ok (.iload 5, 2) := dk_21 5 (dk_at dksX1_counts_0 5 rfl rfl)
theorem dX1_counts_7 : decode cX1_counts 7 = .ok (.aload_n 0, 1) := dk_42 (dk_at dksX1_counts_0 7 rfl rfl)
theorem dX1_counts_8 : decode cX1_counts 8 = .ok (.iload_n 1, 1) := dk_27 (dk_at dksX1_counts_0 8 rfl rfl)
theorem dX1_counts_9 : decode cX1_counts 9 = .ok (.invokevirtual 74, 3) := dk_182 0 74 (dk_at dksX1_counts_0 9 rfl rfl)
theorem dX1_counts_12 : decode cX1_counts 12 = .ok (.if_icmp .ge 36, 3) := dk_162 0 36 (dk_at dksX1_counts_0 12 rfl rfl)
theorem dX1_counts_15 : decode cX1_counts 15 = .ok (.lload_n 3, 1) := dk_33 (dk_at dksX1_counts_0 15 rfl rfl)
theorem dX1_counts_16 : decode cX1_counts 16 = .ok (.iload_n 2, 1) := dk_28 (dk_at dksX1_counts_0 16 rfl rfl)
theorem dX1_counts_17 : decode cX1_counts 17 = .ok (.iload 5, 2) := dk_21 5 (dk_at dksX1_counts_0 17 rfl rfl)
theorem dX1_counts_19 : decode cX1_counts 19 = .ok (.invokestatic 48, 3) := dk_184 0 48 (dk_at dksX1_counts_0 19 rfl rfl)
theorem dX1_counts_22 : decode cX1_counts 22 = .ok (.ifCond .eq 17, 3) := dk_153 0 17 (dk_at dksX1_counts_1 0 rfl rfl)
theorem dX1_counts_25 : decode cX1_counts 25 = .ok (.aload_n 0, 1) := dk_42 (dk_at dksX1_counts_1 3 rfl rfl)
theorem dX1_counts_26 : decode cX1_counts 26 = .ok (.getfield 7, 3) := dk_180 0 7 (dk_at dksX1_counts_1 4 rfl rfl)
theorem dX1_counts_29 : decode cX1_counts 29 = .ok (.iload_n 1, 1) := dk_27 (dk_at dksX1_counts_1 7 rfl rfl)
theorem dX1_counts_30 : decode cX1_counts 30 = .ok (.iload 5, 2) := dk_21 5 (dk_at dksX1_counts_1 8 rfl rfl)
theorem dX1_counts_32 : decode cX1_counts 32 = .ok (.invokestatic 81, 3) := dk_184 0 81 (dk_at dksX1_counts_1 10 rfl rfl)
theorem dX1_counts_35 : decode cX1_counts 35 = .ok (.i2l, 1) := dk_133 (dk_at dksX1_counts_1 13 rfl rfl)
theorem dX1_counts_36 : decode cX1_counts 36 = .ok (.goto 4, 3) := dk_167 0 4 (dk_at dksX1_counts_1 14 rfl rfl)
theorem dX1_counts_39 : decode cX1_counts 39 = .ok (.lconst 1, 1) := dk_10 (dk_at dksX1_counts_1 17 rfl rfl)
theorem dX1_counts_40 : decode cX1_counts 40 = .ok (.lmul, 1) := dk_105 (dk_at dksX1_counts_1 18 rfl rfl)
theorem dX1_counts_41 : decode cX1_counts 41 = .ok (.lstore_n 3, 1) := dk_66 (dk_at dksX1_counts_1 19 rfl rfl)
theorem dX1_counts_42 : decode cX1_counts 42 = .ok (.iinc 5 1, 3) := dk_132 5 1 (dk_at dksX1_counts_1 20 rfl rfl)
theorem dX1_counts_45 : decode cX1_counts 45 = .ok (.goto (-40), 3) := dk_167 255 216 (dk_at dksX1_counts_2 0 rfl rfl)
theorem dX1_counts_48 : decode cX1_counts 48 = .ok (.iload_n 1, 1) := dk_27 (dk_at dksX1_counts_2 3 rfl rfl)
theorem dX1_counts_49 : decode cX1_counts 49 = .ok (.iconst 2, 1) := dk_5 (dk_at dksX1_counts_2 4 rfl rfl)
theorem dX1_counts_50 : decode cX1_counts 50 = .ok (.if_icmp .ne 17, 3) := dk_160 0 17 (dk_at dksX1_counts_2 5 rfl rfl)
theorem dX1_counts_53 : decode cX1_counts 53 = .ok (.aload_n 0, 1) := dk_42 (dk_at dksX1_counts_2 8 rfl rfl)
theorem dX1_counts_54 : decode cX1_counts 54 = .ok (.iconst 2, 1) := dk_5 (dk_at dksX1_counts_2 9 rfl rfl)
theorem dX1_counts_55 : decode cX1_counts 55 = .ok (.iload_n 2, 1) := dk_28 (dk_at dksX1_counts_2 10 rfl rfl)
theorem dX1_counts_56 : decode cX1_counts 56 = .ok (.iload_n 2, 1) := dk_28 (dk_at dksX1_counts_2 11 rfl rfl)
theorem dX1_counts_57 : decode cX1_counts 57 = .ok (.invokestatic 99, 3) := dk_184 0 99 (dk_at dksX1_counts_2 12 rfl rfl)
theorem dX1_counts_60 : decode cX1_counts 60 = .ok (.iconst 0, 1) := dk_3 (dk_at dksX1_counts_2 15 rfl rfl)
theorem dX1_counts_61 : decode cX1_counts 61 = .ok (.invokevirtual 121, 3) := dk_182 0 121 (dk_at dksX1_counts_2 16 rfl rfl)
theorem dX1_counts_64 : decode cX1_counts 64 = .ok (.goto 4, 3) := dk_167 0 4 (dk_at dksX1_counts_2 19 rfl rfl)
theorem dX1_counts_67 : decode cX1_counts 67 = .ok (.lconst 1, 1) := dk_10 (dk_at dksX1_counts_2 22 rfl rfl)
theorem dX1_counts_68 : decode cX1_counts 68 = .ok (.lstore 5, 2) := dk_55 5 (dk_at dksX1_counts_3 0 rfl rfl)
theorem dX1_counts_70 : decode cX1_counts 70 = .ok (.lload_n 3, 1) := dk_33 (dk_at dksX1_counts_3 2 rfl rfl)
theorem dX1_counts_71 : decode cX1_counts 71 = .ok (.lload 5, 2) := dk_22 5 (dk_at dksX1_counts_3 3 rfl rfl)
theorem dX1_counts_73 : decode cX1_counts 73 = .ok (.lmul, 1) := dk_105 (dk_at dksX1_counts_3 5 rfl rfl)
theorem dX1_counts_74 : decode cX1_counts 74 = .ok (.lload 5, 2) := dk_22 5 (dk_at dksX1_counts_3 6 rfl rfl)
theorem dX1_counts_76 : decode cX1_counts 76 = .ok (.lmul, 1) := dk_105 (dk_at dksX1_counts_3 8 rfl rfl)
theorem dX1_counts_77 : decode cX1_counts 77 = .ok (.lreturn, 1) := dk_173 (dk_at dksX1_counts_3 9 rfl rfl)
abbrev cX1_minors : ByteArray := prog_14_method_101_code
def yX1_minors : MethodName := ⟨RX1, "minors", "(I)J"⟩
def dkwX1_minors_5 : List UInt8 := [80, 132, 6, 1, 167, 255, 204, 33, 42, 28, 182, 0, 109, 97, 66, 132, 5, 1, 167, 255, 166, 33, 173]
abbrev dktX1_minors_5 : List UInt8 := dkwX1_minors_5 ++ []
def dkwX1_minors_4 : List UInt8 := [42, 27, 21, 5, 21, 6, 28, 108, 184, 0, 102, 21, 5, 21, 6, 28, 112, 184, 0, 102, 182, 1, 44, 133]
abbrev dktX1_minors_4 : List UInt8 := dkwX1_minors_4 ++ dktX1_minors_5
def dkwX1_minors_3 : List UInt8 := [21, 6, 28, 28, 104, 162, 0, 50, 42, 180, 0, 29, 16, 6, 21, 6, 28, 108, 104, 21, 6, 28, 112, 96]
abbrev dktX1_minors_3 : List UInt8 := dkwX1_minors_3 ++ dktX1_minors_4
def dkwX1_minors_2 : List UInt8 := [21, 5, 4, 42, 27, 182, 1, 41, 120, 162, 0, 84, 21, 5, 184, 0, 99, 28, 160, 0, 69, 3, 54, 6]
abbrev dktX1_minors_2 : List UInt8 := dkwX1_minors_2 ++ dktX1_minors_3
def dkwX1_minors_1 : List UInt8 := [20, 1, 102, 173, 42, 27, 5, 160, 0, 7, 5, 167, 0, 4, 4, 182, 1, 47, 61, 9, 66, 3, 54, 5]
abbrev dktX1_minors_1 : List UInt8 := dkwX1_minors_1 ++ dktX1_minors_2
def dkwX1_minors_0 : List UInt8 := [42, 182, 0, 244, 154, 0, 7, 20, 1, 113, 173, 27, 133, 9, 20, 0, 242, 184, 0, 150, 154, 0, 7]
abbrev dktX1_minors_0 : List UInt8 := dkwX1_minors_0 ++ dktX1_minors_1
theorem dksX1_minors_0 : cX1_minors.data.toList.drop 0 = dktX1_minors_0 := by decide +kernel
theorem dksX1_minors_1 : cX1_minors.data.toList.drop 23 = dktX1_minors_1 := dk_seg dksX1_minors_0 23 rfl rfl
theorem dksX1_minors_2 : cX1_minors.data.toList.drop 47 = dktX1_minors_2 := dk_seg dksX1_minors_1 24 rfl rfl
theorem dksX1_minors_3 : cX1_minors.data.toList.drop 71 = dktX1_minors_3 := dk_seg dksX1_minors_2 24 rfl rfl
theorem dksX1_minors_4 : cX1_minors.data.toList.drop 95 = dktX1_minors_4 := dk_seg dksX1_minors_3 24 rfl rfl
theorem dksX1_minors_5 : cX1_minors.data.toList.drop 119 = dktX1_minors_5 := dk_seg dksX1_minors_4 24 rfl rfl
theorem dX1_minors_0 : decode cX1_minors 0 = .ok (.aload_n 0, 1) := dk_42 (dk_at dksX1_minors_0 0 rfl rfl)
theorem dX1_minors_1 : decode cX1_minors 1 = .ok (.invokevirtual 244, 3) := dk_182 0 244 (dk_at dksX1_minors_0 1 rfl rfl)
theorem dX1_minors_4 : decode cX1_minors 4 = .ok (.ifCond .ne 7, 3) := dk_154 0 7 (dk_at dksX1_minors_0 4 rfl rfl)
theorem dX1_minors_7 : decode cX1_minors 7 = .ok (.ldc2_w 369, 3) := dk_20 1 113 (dk_at dksX1_minors_0 7 rfl rfl)
theorem dX1_minors_10 : decode cX1_minors 10 = .ok (.lreturn, 1) := dk_173 (dk_at dksX1_minors_0 10 rfl rfl)
theorem dX1_minors_11 : decode cX1_minors 11 = .ok (.iload_n 1, 1) := dk_27 (dk_at dksX1_minors_0 11 rfl rfl)
theorem dX1_minors_12 : decode cX1_minors 12 = .ok (.i2l, 1) := dk_133 (dk_at dksX1_minors_0 12 rfl rfl)
theorem dX1_minors_13 : decode cX1_minors 13 = .ok (.lconst 0, 1) := dk_9 (dk_at dksX1_minors_0 13 rfl rfl)
theorem dX1_minors_14 : decode cX1_minors 14 = .ok (.ldc2_w 242, 3) := dk_20 0 242 (dk_at dksX1_minors_0 14 rfl rfl)
theorem dX1_minors_17 : decode cX1_minors 17 = .ok (.invokestatic 150, 3) := dk_184 0 150 (dk_at dksX1_minors_0 17 rfl rfl)
theorem dX1_minors_20 : decode cX1_minors 20 = .ok (.ifCond .ne 7, 3) := dk_154 0 7 (dk_at dksX1_minors_0 20 rfl rfl)
theorem dX1_minors_23 : decode cX1_minors 23 = .ok (.ldc2_w 358, 3) := dk_20 1 102 (dk_at dksX1_minors_1 0 rfl rfl)
theorem dX1_minors_26 : decode cX1_minors 26 = .ok (.lreturn, 1) := dk_173 (dk_at dksX1_minors_1 3 rfl rfl)
theorem dX1_minors_27 : decode cX1_minors 27 = .ok (.aload_n 0, 1) := dk_42 (dk_at dksX1_minors_1 4 rfl rfl)
theorem dX1_minors_28 : decode cX1_minors 28 = .ok (.iload_n 1, 1) := dk_27 (dk_at dksX1_minors_1 5 rfl rfl)
theorem dX1_minors_29 : decode cX1_minors 29 = .ok (.iconst 2, 1) := dk_5 (dk_at dksX1_minors_1 6 rfl rfl)
theorem dX1_minors_30 : decode cX1_minors 30 = .ok (.if_icmp .ne 7, 3) := dk_160 0 7 (dk_at dksX1_minors_1 7 rfl rfl)
theorem dX1_minors_33 : decode cX1_minors 33 = .ok (.iconst 2, 1) := dk_5 (dk_at dksX1_minors_1 10 rfl rfl)
theorem dX1_minors_34 : decode cX1_minors 34 = .ok (.goto 4, 3) := dk_167 0 4 (dk_at dksX1_minors_1 11 rfl rfl)
theorem dX1_minors_37 : decode cX1_minors 37 = .ok (.iconst 1, 1) := dk_4 (dk_at dksX1_minors_1 14 rfl rfl)
theorem dX1_minors_38 : decode cX1_minors 38 = .ok (.invokevirtual 303, 3) := dk_182 1 47 (dk_at dksX1_minors_1 15 rfl rfl)
theorem dX1_minors_41 : decode cX1_minors 41 = .ok (.istore_n 2, 1) := dk_61 (dk_at dksX1_minors_1 18 rfl rfl)
theorem dX1_minors_42 : decode cX1_minors 42 = .ok (.lconst 0, 1) := dk_9 (dk_at dksX1_minors_1 19 rfl rfl)
theorem dX1_minors_43 : decode cX1_minors 43 = .ok (.lstore_n 3, 1) := dk_66 (dk_at dksX1_minors_1 20 rfl rfl)
theorem dX1_minors_44 : decode cX1_minors 44 = .ok (.iconst 0, 1) := dk_3 (dk_at dksX1_minors_1 21 rfl rfl)
theorem dX1_minors_45 : decode cX1_minors 45 = .ok (.istore 5, 2) := dk_54 5 (dk_at dksX1_minors_1 22 rfl rfl)
theorem dX1_minors_47 : decode cX1_minors 47 = .ok (.iload 5, 2) := dk_21 5 (dk_at dksX1_minors_2 0 rfl rfl)
theorem dX1_minors_49 : decode cX1_minors 49 = .ok (.iconst 1, 1) := dk_4 (dk_at dksX1_minors_2 2 rfl rfl)
theorem dX1_minors_50 : decode cX1_minors 50 = .ok (.aload_n 0, 1) := dk_42 (dk_at dksX1_minors_2 3 rfl rfl)
theorem dX1_minors_51 : decode cX1_minors 51 = .ok (.iload_n 1, 1) := dk_27 (dk_at dksX1_minors_2 4 rfl rfl)
theorem dX1_minors_52 : decode cX1_minors 52 = .ok (.invokevirtual 297, 3) := dk_182 1 41 (dk_at dksX1_minors_2 5 rfl rfl)
theorem dX1_minors_55 : decode cX1_minors 55 = .ok (.ishl, 1) := dk_120 (dk_at dksX1_minors_2 8 rfl rfl)
theorem dX1_minors_56 : decode cX1_minors 56 = .ok (.if_icmp .ge 84, 3) := dk_162 0 84 (dk_at dksX1_minors_2 9 rfl rfl)
theorem dX1_minors_59 : decode cX1_minors 59 = .ok (.iload 5, 2) := dk_21 5 (dk_at dksX1_minors_2 12 rfl rfl)
theorem dX1_minors_61 : decode cX1_minors 61 = .ok (.invokestatic 99, 3) := dk_184 0 99 (dk_at dksX1_minors_2 14 rfl rfl)
theorem dX1_minors_64 : decode cX1_minors 64 = .ok (.iload_n 2, 1) := dk_28 (dk_at dksX1_minors_2 17 rfl rfl)
theorem dX1_minors_65 : decode cX1_minors 65 = .ok (.if_icmp .ne 69, 3) := dk_160 0 69 (dk_at dksX1_minors_2 18 rfl rfl)
theorem dX1_minors_68 : decode cX1_minors 68 = .ok (.iconst 0, 1) := dk_3 (dk_at dksX1_minors_2 21 rfl rfl)
theorem dX1_minors_69 : decode cX1_minors 69 = .ok (.istore 6, 2) := dk_54 6 (dk_at dksX1_minors_2 22 rfl rfl)
theorem dX1_minors_71 : decode cX1_minors 71 = .ok (.iload 6, 2) := dk_21 6 (dk_at dksX1_minors_3 0 rfl rfl)
theorem dX1_minors_73 : decode cX1_minors 73 = .ok (.iload_n 2, 1) := dk_28 (dk_at dksX1_minors_3 2 rfl rfl)
theorem dX1_minors_74 : decode cX1_minors 74 = .ok (.iload_n 2, 1) := dk_28 (dk_at dksX1_minors_3 3 rfl rfl)
theorem dX1_minors_75 : decode cX1_minors 75 = .ok (.imul, 1) := dk_104 (dk_at dksX1_minors_3 4 rfl rfl)
theorem dX1_minors_76 : decode cX1_minors 76 = .ok (.if_icmp .ge 50, 3) := dk_162 0 50 (dk_at dksX1_minors_3 5 rfl rfl)
theorem dX1_minors_79 : decode cX1_minors 79 = .ok (.aload_n 0, 1) := dk_42 (dk_at dksX1_minors_3 8 rfl rfl)
theorem dX1_minors_80 : decode cX1_minors 80 = .ok (.getfield 29, 3) := dk_180 0 29 (dk_at dksX1_minors_3 9 rfl rfl)
theorem dX1_minors_83 : decode cX1_minors 83 = .ok (.bipush 6, 2) := dk_16 6 (dk_at dksX1_minors_3 12 rfl rfl)
theorem dX1_minors_85 : decode cX1_minors 85 = .ok (.iload 6, 2) := dk_21 6 (dk_at dksX1_minors_3 14 rfl rfl)
theorem dX1_minors_87 : decode cX1_minors 87 = .ok (.iload_n 2, 1) := dk_28 (dk_at dksX1_minors_3 16 rfl rfl)
theorem dX1_minors_88 : decode cX1_minors 88 = .ok (.idiv, 1) := dk_108 (dk_at dksX1_minors_3 17 rfl rfl)
theorem dX1_minors_89 : decode cX1_minors 89 = .ok (.imul, 1) := dk_104 (dk_at dksX1_minors_3 18 rfl rfl)
theorem dX1_minors_90 : decode cX1_minors 90 = .ok (.iload 6, 2) := dk_21 6 (dk_at dksX1_minors_3 19 rfl rfl)
theorem dX1_minors_92 : decode cX1_minors 92 = .ok (.iload_n 2, 1) := dk_28 (dk_at dksX1_minors_3 21 rfl rfl)
theorem dX1_minors_93 : decode cX1_minors 93 = .ok (.irem, 1) := dk_112 (dk_at dksX1_minors_3 22 rfl rfl)
theorem dX1_minors_94 : decode cX1_minors 94 = .ok (.iadd, 1) := dk_96 (dk_at dksX1_minors_3 23 rfl rfl)
theorem dX1_minors_95 : decode cX1_minors 95 = .ok (.aload_n 0, 1) := dk_42 (dk_at dksX1_minors_4 0 rfl rfl)
theorem dX1_minors_96 : decode cX1_minors 96 = .ok (.iload_n 1, 1) := dk_27 (dk_at dksX1_minors_4 1 rfl rfl)
theorem dX1_minors_97 : decode cX1_minors 97 = .ok (.iload 5, 2) := dk_21 5 (dk_at dksX1_minors_4 2 rfl rfl)
theorem dX1_minors_99 : decode cX1_minors 99 = .ok (.iload 6, 2) := dk_21 6 (dk_at dksX1_minors_4 4 rfl rfl)
theorem dX1_minors_101 : decode cX1_minors 101 = .ok (.iload_n 2, 1) := dk_28 (dk_at dksX1_minors_4 6 rfl rfl)
theorem dX1_minors_102 : decode cX1_minors 102 = .ok (.idiv, 1) := dk_108 (dk_at dksX1_minors_4 7 rfl rfl)
theorem dX1_minors_103 : decode cX1_minors 103 = .ok (.invokestatic 102, 3) := dk_184 0 102 (dk_at dksX1_minors_4 8 rfl rfl)
theorem dX1_minors_106 : decode cX1_minors 106 = .ok (.iload 5, 2) := dk_21 5 (dk_at dksX1_minors_4 11 rfl rfl)
theorem dX1_minors_108 : decode cX1_minors 108 = .ok (.iload 6, 2) := dk_21 6 (dk_at dksX1_minors_4 13 rfl rfl)
theorem dX1_minors_110 : decode cX1_minors 110 = .ok (.iload_n 2, 1) := dk_28 (dk_at dksX1_minors_4 15 rfl rfl)
theorem dX1_minors_111 : decode cX1_minors 111 = .ok (.irem, 1) := dk_112 (dk_at dksX1_minors_4 16 rfl rfl)
theorem dX1_minors_112 : decode cX1_minors 112 = .ok (.invokestatic 102, 3) := dk_184 0 102 (dk_at dksX1_minors_4 17 rfl rfl)
theorem dX1_minors_115 : decode cX1_minors 115 = .ok (.invokevirtual 300, 3) := dk_182 1 44 (dk_at dksX1_minors_4 20 rfl rfl)
theorem dX1_minors_118 : decode cX1_minors 118 = .ok (.i2l, 1) := dk_133 (dk_at dksX1_minors_4 23 rfl rfl)
theorem dX1_minors_119 : decode cX1_minors 119 = .ok (.lastore, 1) := dk_80 (dk_at dksX1_minors_5 0 rfl rfl)
theorem dX1_minors_120 : decode cX1_minors 120 = .ok (.iinc 6 1, 3) := dk_132 6 1 (dk_at dksX1_minors_5 1 rfl rfl)
theorem dX1_minors_123 : decode cX1_minors 123 = .ok (.goto (-52), 3) := dk_167 255 204 (dk_at dksX1_minors_5 4 rfl rfl)
theorem dX1_minors_126 : decode cX1_minors 126 = .ok (.lload_n 3, 1) := dk_33 (dk_at dksX1_minors_5 7 rfl rfl)
theorem dX1_minors_127 : decode cX1_minors 127 = .ok (.aload_n 0, 1) := dk_42 (dk_at dksX1_minors_5 8 rfl rfl)
theorem dX1_minors_128 : decode cX1_minors 128 = .ok (.iload_n 2, 1) := dk_28 (dk_at dksX1_minors_5 9 rfl rfl)
theorem dX1_minors_129 : decode cX1_minors 129 = .ok (.invokevirtual 109, 3) := dk_182 0 109 (dk_at dksX1_minors_5 10 rfl rfl)
theorem dX1_minors_132 : decode cX1_minors 132 = .ok (.ladd, 1) := dk_97 (dk_at dksX1_minors_5 13 rfl rfl)
theorem dX1_minors_133 : decode cX1_minors 133 = .ok (.lstore_n 3, 1) := dk_66 (dk_at dksX1_minors_5 14 rfl rfl)
theorem dX1_minors_134 : decode cX1_minors 134 = .ok (.iinc 5 1, 3) := dk_132 5 1 (dk_at dksX1_minors_5 15 rfl rfl)
theorem dX1_minors_137 : decode cX1_minors 137 = .ok (.goto (-90), 3) := dk_167 255 166 (dk_at dksX1_minors_5 18 rfl rfl)
theorem dX1_minors_140 : decode cX1_minors 140 = .ok (.lload_n 3, 1) := dk_33 (dk_at dksX1_minors_5 21 rfl rfl)
theorem dX1_minors_141 : decode cX1_minors 141 = .ok (.lreturn, 1) := dk_173 (dk_at dksX1_minors_5 22 rfl rfl)
abbrev cX1_image : ByteArray := prog_14_method_102_code
def yX1_image : MethodName := ⟨RX1, "image", "(I)I"⟩
def dkwX1_image_1 : List UInt8 := [180, 0, 7, 3, 42, 180, 0, 19, 16, 63, 27, 104, 184, 0, 234, 42, 180, 0, 22, 27, 4, 84, 4, 172]
abbrev dktX1_image_1 : List UInt8 := dkwX1_image_1 ++ []
def dkwX1_image_0 : List UInt8 := [27, 133, 9, 10, 184, 0, 150, 154, 0, 6, 18, 218, 172, 42, 182, 0, 244, 154, 0, 6, 18, 241, 172, 42]
abbrev dktX1_image_0 : List UInt8 := dkwX1_image_0 ++ dktX1_image_1
theorem dksX1_image_0 : cX1_image.data.toList.drop 0 = dktX1_image_0 := by decide +kernel
theorem dksX1_image_1 : cX1_image.data.toList.drop 24 = dktX1_image_1 := dk_seg dksX1_image_0 24 rfl rfl
theorem dX1_image_0 : decode cX1_image 0 = .ok (.iload_n 1, 1) := dk_27 (dk_at dksX1_image_0 0 rfl rfl)
theorem dX1_image_1 : decode cX1_image 1 = .ok (.i2l, 1) := dk_133 (dk_at dksX1_image_0 1 rfl rfl)
theorem dX1_image_2 : decode cX1_image 2 = .ok (.lconst 0, 1) := dk_9 (dk_at dksX1_image_0 2 rfl rfl)
theorem dX1_image_3 : decode cX1_image 3 = .ok (.lconst 1, 1) := dk_10 (dk_at dksX1_image_0 3 rfl rfl)
theorem dX1_image_4 : decode cX1_image 4 = .ok (.invokestatic 150, 3) := dk_184 0 150 (dk_at dksX1_image_0 4 rfl rfl)
theorem dX1_image_7 : decode cX1_image 7 = .ok (.ifCond .ne 6, 3) := dk_154 0 6 (dk_at dksX1_image_0 7 rfl rfl)
theorem dX1_image_10 : decode cX1_image 10 = .ok (.ldc 218, 2) := dk_18 218 (dk_at dksX1_image_0 10 rfl rfl)
theorem dX1_image_12 : decode cX1_image 12 = .ok (.ireturn, 1) := dk_172 (dk_at dksX1_image_0 12 rfl rfl)
theorem dX1_image_13 : decode cX1_image 13 = .ok (.aload_n 0, 1) := dk_42 (dk_at dksX1_image_0 13 rfl rfl)
theorem dX1_image_14 : decode cX1_image 14 = .ok (.invokevirtual 244, 3) := dk_182 0 244 (dk_at dksX1_image_0 14 rfl rfl)
theorem dX1_image_17 : decode cX1_image 17 = .ok (.ifCond .ne 6, 3) := dk_154 0 6 (dk_at dksX1_image_0 17 rfl rfl)
theorem dX1_image_20 : decode cX1_image 20 = .ok (.ldc 241, 2) := dk_18 241 (dk_at dksX1_image_0 20 rfl rfl)
theorem dX1_image_22 : decode cX1_image 22 = .ok (.ireturn, 1) := dk_172 (dk_at dksX1_image_0 22 rfl rfl)
theorem dX1_image_23 : decode cX1_image 23 = .ok (.aload_n 0, 1) := dk_42 (dk_at dksX1_image_0 23 rfl rfl)
theorem dX1_image_24 : decode cX1_image 24 = .ok (.getfield 7, 3) := dk_180 0 7 (dk_at dksX1_image_1 0 rfl rfl)
theorem dX1_image_27 : decode cX1_image 27 = .ok (.iconst 0, 1) := dk_3 (dk_at dksX1_image_1 3 rfl rfl)
theorem dX1_image_28 : decode cX1_image 28 = .ok (.aload_n 0, 1) := dk_42 (dk_at dksX1_image_1 4 rfl rfl)
theorem dX1_image_29 : decode cX1_image 29 = .ok (.getfield 19, 3) := dk_180 0 19 (dk_at dksX1_image_1 5 rfl rfl)
theorem dX1_image_32 : decode cX1_image 32 = .ok (.bipush 63, 2) := dk_16 63 (dk_at dksX1_image_1 8 rfl rfl)
theorem dX1_image_34 : decode cX1_image 34 = .ok (.iload_n 1, 1) := dk_27 (dk_at dksX1_image_1 10 rfl rfl)
theorem dX1_image_35 : decode cX1_image 35 = .ok (.imul, 1) := dk_104 (dk_at dksX1_image_1 11 rfl rfl)
theorem dX1_image_36 : decode cX1_image 36 = .ok (.invokestatic 234, 3) := dk_184 0 234 (dk_at dksX1_image_1 12 rfl rfl)
theorem dX1_image_39 : decode cX1_image 39 = .ok (.aload_n 0, 1) := dk_42 (dk_at dksX1_image_1 15 rfl rfl)
theorem dX1_image_40 : decode cX1_image 40 = .ok (.getfield 22, 3) := dk_180 0 22 (dk_at dksX1_image_1 16 rfl rfl)
theorem dX1_image_43 : decode cX1_image 43 = .ok (.iload_n 1, 1) := dk_27 (dk_at dksX1_image_1 19 rfl rfl)
theorem dX1_image_44 : decode cX1_image 44 = .ok (.iconst 1, 1) := dk_4 (dk_at dksX1_image_1 20 rfl rfl)
theorem dX1_image_45 : decode cX1_image 45 = .ok (.bastore, 1) := dk_84 (dk_at dksX1_image_1 21 rfl rfl)
theorem dX1_image_46 : decode cX1_image 46 = .ok (.iconst 1, 1) := dk_4 (dk_at dksX1_image_1 22 rfl rfl)
theorem dX1_image_47 : decode cX1_image 47 = .ok (.ireturn, 1) := dk_172 (dk_at dksX1_image_1 23 rfl rfl)
abbrev cX1_restore : ByteArray := prog_14_method_103_code
def yX1_restore : MethodName := ⟨RX1, "restore", "(I)I"⟩
def dkwX1_restore_1 : List UInt8 := [172, 42, 180, 0, 19, 16, 63, 27, 104, 42, 180, 0, 7, 3, 184, 0, 234, 42, 3, 181, 0, 238, 4, 172]
abbrev dktX1_restore_1 : List UInt8 := dkwX1_restore_1 ++ []
def dkwX1_restore_0 : List UInt8 := [27, 133, 9, 10, 184, 0, 150, 154, 0, 6, 18, 218, 172, 42, 180, 0, 22, 27, 51, 154, 0, 6, 18, 241]
abbrev dktX1_restore_0 : List UInt8 := dkwX1_restore_0 ++ dktX1_restore_1
theorem dksX1_restore_0 : cX1_restore.data.toList.drop 0 = dktX1_restore_0 := by decide +kernel
theorem dksX1_restore_1 : cX1_restore.data.toList.drop 24 = dktX1_restore_1 := dk_seg dksX1_restore_0 24 rfl rfl
theorem dX1_restore_0 : decode cX1_restore 0 = .ok (.iload_n 1, 1) := dk_27 (dk_at dksX1_restore_0 0 rfl rfl)
theorem dX1_restore_1 : decode cX1_restore 1 = .ok (.i2l, 1) := dk_133 (dk_at dksX1_restore_0 1 rfl rfl)
theorem dX1_restore_2 : decode cX1_restore 2 = .ok (.lconst 0, 1) := dk_9 (dk_at dksX1_restore_0 2 rfl rfl)
theorem dX1_restore_3 : decode cX1_restore 3 = .ok (.lconst 1, 1) := dk_10 (dk_at dksX1_restore_0 3 rfl rfl)
theorem dX1_restore_4 : decode cX1_restore 4 = .ok (.invokestatic 150, 3) := dk_184 0 150 (dk_at dksX1_restore_0 4 rfl rfl)
theorem dX1_restore_7 : decode cX1_restore 7 = .ok (.ifCond .ne 6, 3) := dk_154 0 6 (dk_at dksX1_restore_0 7 rfl rfl)
theorem dX1_restore_10 : decode cX1_restore 10 = .ok (.ldc 218, 2) := dk_18 218 (dk_at dksX1_restore_0 10 rfl rfl)
theorem dX1_restore_12 : decode cX1_restore 12 = .ok (.ireturn, 1) := dk_172 (dk_at dksX1_restore_0 12 rfl rfl)
theorem dX1_restore_13 : decode cX1_restore 13 = .ok (.aload_n 0, 1) := dk_42 (dk_at dksX1_restore_0 13 rfl rfl)
theorem dX1_restore_14 : decode cX1_restore 14 = .ok (.getfield 22, 3) := dk_180 0 22 (dk_at dksX1_restore_0 14 rfl rfl)
theorem dX1_restore_17 : decode cX1_restore 17 = .ok (.iload_n 1, 1) := dk_27 (dk_at dksX1_restore_0 17 rfl rfl)
theorem dX1_restore_18 : decode cX1_restore 18 = .ok (.baload, 1) := dk_51 (dk_at dksX1_restore_0 18 rfl rfl)
theorem dX1_restore_19 : decode cX1_restore 19 = .ok (.ifCond .ne 6, 3) := dk_154 0 6 (dk_at dksX1_restore_0 19 rfl rfl)
theorem dX1_restore_22 : decode cX1_restore 22 = .ok (.ldc 241, 2) := dk_18 241 (dk_at dksX1_restore_0 22 rfl rfl)
theorem dX1_restore_24 : decode cX1_restore 24 = .ok (.ireturn, 1) := dk_172 (dk_at dksX1_restore_1 0 rfl rfl)
theorem dX1_restore_25 : decode cX1_restore 25 = .ok (.aload_n 0, 1) := dk_42 (dk_at dksX1_restore_1 1 rfl rfl)
theorem dX1_restore_26 : decode cX1_restore 26 = .ok (.getfield 19, 3) := dk_180 0 19 (dk_at dksX1_restore_1 2 rfl rfl)
theorem dX1_restore_29 : decode cX1_restore 29 = .ok (.bipush 63, 2) := dk_16 63 (dk_at dksX1_restore_1 5 rfl rfl)
theorem dX1_restore_31 : decode cX1_restore 31 = .ok (.iload_n 1, 1) := dk_27 (dk_at dksX1_restore_1 7 rfl rfl)
theorem dX1_restore_32 : decode cX1_restore 32 = .ok (.imul, 1) := dk_104 (dk_at dksX1_restore_1 8 rfl rfl)
theorem dX1_restore_33 : decode cX1_restore 33 = .ok (.aload_n 0, 1) := dk_42 (dk_at dksX1_restore_1 9 rfl rfl)
theorem dX1_restore_34 : decode cX1_restore 34 = .ok (.getfield 7, 3) := dk_180 0 7 (dk_at dksX1_restore_1 10 rfl rfl)
theorem dX1_restore_37 : decode cX1_restore 37 = .ok (.iconst 0, 1) := dk_3 (dk_at dksX1_restore_1 13 rfl rfl)
theorem dX1_restore_38 : decode cX1_restore 38 = .ok (.invokestatic 234, 3) := dk_184 0 234 (dk_at dksX1_restore_1 14 rfl rfl)
theorem dX1_restore_41 : decode cX1_restore 41 = .ok (.aload_n 0, 1) := dk_42 (dk_at dksX1_restore_1 17 rfl rfl)
theorem dX1_restore_42 : decode cX1_restore 42 = .ok (.iconst 0, 1) := dk_3 (dk_at dksX1_restore_1 18 rfl rfl)
theorem dX1_restore_43 : decode cX1_restore 43 = .ok (.putfield 238, 3) := dk_181 0 238 (dk_at dksX1_restore_1 19 rfl rfl)
theorem dX1_restore_46 : decode cX1_restore 46 = .ok (.iconst 1, 1) := dk_4 (dk_at dksX1_restore_1 22 rfl rfl)
theorem dX1_restore_47 : decode cX1_restore 47 = .ok (.ireturn, 1) := dk_172 (dk_at dksX1_restore_1 23 rfl rfl)
abbrev cX1_count : ByteArray := prog_14_method_104_code
def yX1_count : MethodName := ⟨RX1, "count", "(I)I"⟩
def dkwX1_count_2 : List UInt8 := [42, 180, 0, 7, 27, 46, 172, 42, 180, 0, 238, 172, 42, 180, 0, 130, 172, 18, 218, 172]
abbrev dktX1_count_2 : List UInt8 := dkwX1_count_2 ++ []
def dkwX1_count_1 : List UInt8 := [170, 0, 0, 0, 0, 0, 52, 0, 0, 0, 0, 0, 0, 0, 4, 0, 0, 0, 35, 0, 0, 0, 35, 0, 0, 0, 35, 0, 0, 0, 42, 0, 0, 0, 47]
abbrev dktX1_count_1 : List UInt8 := dkwX1_count_1 ++ dktX1_count_2
def dkwX1_count_0 : List UInt8 := [27]
abbrev dktX1_count_0 : List UInt8 := dkwX1_count_0 ++ dktX1_count_1
theorem dksX1_count_0 : cX1_count.data.toList.drop 0 = dktX1_count_0 := by decide +kernel
theorem dksX1_count_1 : cX1_count.data.toList.drop 1 = dktX1_count_1 := dk_seg dksX1_count_0 1 rfl rfl
theorem dksX1_count_2 : cX1_count.data.toList.drop 36 = dktX1_count_2 := dk_seg dksX1_count_1 35 rfl rfl
theorem dX1_count_0 : decode cX1_count 0 = .ok (.iload_n 1, 1) := dk_27 (dk_at dksX1_count_0 0 rfl rfl)
theorem dX1_count_1 : decode cX1_count 1 = .ok (.tableswitch 52 0 4 #[35, 35, 35, 42, 47], 35) := by decide +kernel
theorem dX1_count_36 : decode cX1_count 36 = .ok (.aload_n 0, 1) := dk_42 (dk_at dksX1_count_2 0 rfl rfl)
theorem dX1_count_37 : decode cX1_count 37 = .ok (.getfield 7, 3) := dk_180 0 7 (dk_at dksX1_count_2 1 rfl rfl)
theorem dX1_count_40 : decode cX1_count 40 = .ok (.iload_n 1, 1) := dk_27 (dk_at dksX1_count_2 4 rfl rfl)
theorem dX1_count_41 : decode cX1_count 41 = .ok (.iaload, 1) := dk_46 (dk_at dksX1_count_2 5 rfl rfl)
theorem dX1_count_42 : decode cX1_count 42 = .ok (.ireturn, 1) := dk_172 (dk_at dksX1_count_2 6 rfl rfl)
theorem dX1_count_43 : decode cX1_count 43 = .ok (.aload_n 0, 1) := dk_42 (dk_at dksX1_count_2 7 rfl rfl)
theorem dX1_count_44 : decode cX1_count 44 = .ok (.getfield 238, 3) := dk_180 0 238 (dk_at dksX1_count_2 8 rfl rfl)
theorem dX1_count_47 : decode cX1_count 47 = .ok (.ireturn, 1) := dk_172 (dk_at dksX1_count_2 11 rfl rfl)
theorem dX1_count_48 : decode cX1_count 48 = .ok (.aload_n 0, 1) := dk_42 (dk_at dksX1_count_2 12 rfl rfl)
theorem dX1_count_49 : decode cX1_count 49 = .ok (.getfield 130, 3) := dk_180 0 130 (dk_at dksX1_count_2 13 rfl rfl)
theorem dX1_count_52 : decode cX1_count 52 = .ok (.ireturn, 1) := dk_172 (dk_at dksX1_count_2 16 rfl rfl)
theorem dX1_count_53 : decode cX1_count 53 = .ok (.ldc 218, 2) := dk_18 218 (dk_at dksX1_count_2 17 rfl rfl)
theorem dX1_count_55 : decode cX1_count 55 = .ok (.ireturn, 1) := dk_172 (dk_at dksX1_count_2 19 rfl rfl)
theorem q73 : (Jvm.Cond.initialized "ChainPartsModel") ∈ lw_all := lw_g (lw_at lw_m1 2 rfl) rfl
theorem q928 : (Jvm.Cond.instantiable "ChainPartsModel" (24 : Nat)) ∈ lw_all := lw_g (lw_at lw_m4 137 rfl) rfl
theorem q930 : (Jvm.Cond.instanceMethod ({ cls := "ChainPartsModel", name := "<init>", desc := "()V" } : Jvm.MethodName)) ∈ lw_all := lw_g (lw_at lw_m4 139 rfl) rfl
theorem q931 : (Jvm.Cond.code ({ cls := "ChainPartsModel", name := "<init>", desc := "()V" } : Jvm.MethodName) prog_14_method_1_code (1 : Nat) (Option.none : Option Jvm.ClassFile.FieldType)) ∈ lw_all := lw_g (lw_at lw_m4 140 rfl) rfl
theorem q932 : (Jvm.Cond.methodLink "ChainPartsModel" (1 : Nat) ({ cls := "java/lang/Object", name := "<init>", desc := "()V" } : Jvm.MethodName)) ∈ lw_all := lw_g (lw_at lw_m4 141 rfl) rfl
theorem q933 : (Jvm.Cond.fieldLink "ChainPartsModel" (7 : Nat) "ChainPartsModel" "now" "[I") ∈ lw_all := lw_g (lw_at lw_m4 142 rfl) rfl
theorem q934 : (Jvm.Cond.fieldLink "ChainPartsModel" (13 : Nat) "ChainPartsModel" "draft" "[I") ∈ lw_all := lw_g (lw_at lw_m4 143 rfl) rfl
theorem q935 : (Jvm.Cond.fieldLink "ChainPartsModel" (16 : Nat) "ChainPartsModel" "past" "[I") ∈ lw_all := lw_g (lw_at lw_m4 144 rfl) rfl
theorem q936 : (Jvm.Cond.fieldLink "ChainPartsModel" (238 : Nat) "ChainPartsModel" "acts" "I") ∈ lw_all := lw_g (lw_at lw_m4 145 rfl) rfl
theorem q937 : (Jvm.Cond.fieldLink "ChainPartsModel" (19 : Nat) "ChainPartsModel" "images" "[I") ∈ lw_all := lw_g (lw_at lw_m4 146 rfl) rfl
theorem q938 : (Jvm.Cond.fieldLink "ChainPartsModel" (22 : Nat) "ChainPartsModel" "kept" "[Z") ∈ lw_all := lw_g (lw_at lw_m4 147 rfl) rfl
theorem q939 : (Jvm.Cond.fieldLink "ChainPartsModel" (26 : Nat) "ChainPartsModel" "tape" "[I") ∈ lw_all := lw_g (lw_at lw_m4 148 rfl) rfl
theorem q940 : (Jvm.Cond.fieldLink "ChainPartsModel" (130 : Nat) "ChainPartsModel" "taped" "I") ∈ lw_all := lw_g (lw_at lw_m4 149 rfl) rfl
theorem q941 : (Jvm.Cond.fieldLink "ChainPartsModel" (134 : Nat) "ChainPartsModel" "at" "I") ∈ lw_all := lw_g (lw_at lw_m4 150 rfl) rfl
theorem q942 : (Jvm.Cond.fieldLink "ChainPartsModel" (137 : Nat) "ChainPartsModel" "start" "I") ∈ lw_all := lw_g (lw_at lw_m4 151 rfl) rfl
theorem q943 : (Jvm.Cond.fieldLink "ChainPartsModel" (162 : Nat) "ChainPartsModel" "token" "I") ∈ lw_all := lw_g (lw_at lw_m4 152 rfl) rfl
theorem q944 : (Jvm.Cond.fieldLink "ChainPartsModel" (143 : Nat) "ChainPartsModel" "value" "I") ∈ lw_all := lw_g (lw_at lw_m4 153 rfl) rfl
theorem q945 : (Jvm.Cond.fieldLink "ChainPartsModel" (165 : Nat) "ChainPartsModel" "fault" "I") ∈ lw_all := lw_g (lw_at lw_m4 154 rfl) rfl
theorem q946 : (Jvm.Cond.fieldLink "ChainPartsModel" (168 : Nat) "ChainPartsModel" "place" "I") ∈ lw_all := lw_g (lw_at lw_m4 155 rfl) rfl
theorem q947 : (Jvm.Cond.fieldLink "ChainPartsModel" (230 : Nat) "ChainPartsModel" "latest" "I") ∈ lw_all := lw_g (lw_at lw_m4 156 rfl) rfl
theorem q948 : (Jvm.Cond.fieldLink "ChainPartsModel" (29 : Nat) "ChainPartsModel" "m" "[J") ∈ lw_all := lw_g (lw_at lw_m4 157 rfl) rfl
theorem q949 : (Jvm.Cond.fieldLink "ChainPartsModel" (33 : Nat) "ChainPartsModel" "solved" "[J") ∈ lw_all := lw_g (lw_at lw_m4 158 rfl) rfl
theorem q950 : (Jvm.Cond.fieldLink "ChainPartsModel" (337 : Nat) "ChainPartsModel" "under" "J") ∈ lw_all := lw_g (lw_at lw_m4 159 rfl) rfl
theorem q951 : (Jvm.Cond.fieldLink "ChainPartsModel" (36 : Nat) "ChainPartsModel" "above" "[J") ∈ lw_all := lw_g (lw_at lw_m4 160 rfl) rfl
theorem q952 : (Jvm.Cond.fieldLink "ChainPartsModel" (39 : Nat) "ChainPartsModel" "below" "[J") ∈ lw_all := lw_g (lw_at lw_m4 161 rfl) rfl
theorem q953 : (Jvm.Cond.fieldLink "ChainPartsModel" (42 : Nat) "ChainPartsModel" "boundAbove" "[J") ∈ lw_all := lw_g (lw_at lw_m4 162 rfl) rfl
theorem q954 : (Jvm.Cond.fieldLink "ChainPartsModel" (45 : Nat) "ChainPartsModel" "boundBelow" "[J") ∈ lw_all := lw_g (lw_at lw_m4 163 rfl) rfl
theorem q955 : (Jvm.Cond.fieldLink "ChainPartsModel" (363 : Nat) "ChainPartsModel" "lengthAbove" "J") ∈ lw_all := lw_g (lw_at lw_m4 164 rfl) rfl
theorem q956 : (Jvm.Cond.fieldLink "ChainPartsModel" (366 : Nat) "ChainPartsModel" "lengthBelow" "J") ∈ lw_all := lw_g (lw_at lw_m4 165 rfl) rfl
theorem q957 : (Jvm.Cond.laysFinal "ChainPartsModel" "ChainPartsModel" "now" "[I") ∈ lw_all := lw_g (lw_at lw_m4 166 rfl) rfl
theorem q958 : (Jvm.Cond.soleField "ChainPartsModel" "now") ∈ lw_all := lw_g (lw_at lw_m4 167 rfl) rfl
theorem q959 : (Jvm.Cond.laysFinal "ChainPartsModel" "ChainPartsModel" "draft" "[I") ∈ lw_all := lw_g (lw_at lw_m4 168 rfl) rfl
theorem q960 : (Jvm.Cond.soleField "ChainPartsModel" "draft") ∈ lw_all := lw_g (lw_at lw_m4 169 rfl) rfl
theorem q961 : (Jvm.Cond.laysFinal "ChainPartsModel" "ChainPartsModel" "past" "[I") ∈ lw_all := lw_g (lw_at lw_m4 170 rfl) rfl
theorem q962 : (Jvm.Cond.soleField "ChainPartsModel" "past") ∈ lw_all := lw_g (lw_at lw_m4 171 rfl) rfl
theorem q963 : (Jvm.Cond.lays "ChainPartsModel" "ChainPartsModel" "acts" "I") ∈ lw_all := lw_g (lw_at lw_m4 172 rfl) rfl
theorem q964 : (Jvm.Cond.soleField "ChainPartsModel" "acts") ∈ lw_all := lw_g (lw_at lw_m4 173 rfl) rfl
theorem q965 : (Jvm.Cond.laysFinal "ChainPartsModel" "ChainPartsModel" "images" "[I") ∈ lw_all := lw_g (lw_at lw_m4 174 rfl) rfl
theorem q966 : (Jvm.Cond.soleField "ChainPartsModel" "images") ∈ lw_all := lw_g (lw_at lw_m4 175 rfl) rfl
theorem q967 : (Jvm.Cond.laysFinal "ChainPartsModel" "ChainPartsModel" "kept" "[Z") ∈ lw_all := lw_g (lw_at lw_m4 176 rfl) rfl
theorem q968 : (Jvm.Cond.soleField "ChainPartsModel" "kept") ∈ lw_all := lw_g (lw_at lw_m4 177 rfl) rfl
theorem q969 : (Jvm.Cond.laysFinal "ChainPartsModel" "ChainPartsModel" "tape" "[I") ∈ lw_all := lw_g (lw_at lw_m4 178 rfl) rfl
theorem q970 : (Jvm.Cond.soleField "ChainPartsModel" "tape") ∈ lw_all := lw_g (lw_at lw_m4 179 rfl) rfl
theorem q971 : (Jvm.Cond.lays "ChainPartsModel" "ChainPartsModel" "taped" "I") ∈ lw_all := lw_g (lw_at lw_m4 180 rfl) rfl
theorem q972 : (Jvm.Cond.soleField "ChainPartsModel" "taped") ∈ lw_all := lw_g (lw_at lw_m4 181 rfl) rfl
theorem q973 : (Jvm.Cond.lays "ChainPartsModel" "ChainPartsModel" "at" "I") ∈ lw_all := lw_g (lw_at lw_m4 182 rfl) rfl
theorem q974 : (Jvm.Cond.soleField "ChainPartsModel" "at") ∈ lw_all := lw_g (lw_at lw_m4 183 rfl) rfl
theorem q975 : (Jvm.Cond.lays "ChainPartsModel" "ChainPartsModel" "start" "I") ∈ lw_all := lw_g (lw_at lw_m4 184 rfl) rfl
theorem q976 : (Jvm.Cond.soleField "ChainPartsModel" "start") ∈ lw_all := lw_g (lw_at lw_m4 185 rfl) rfl
theorem q977 : (Jvm.Cond.lays "ChainPartsModel" "ChainPartsModel" "token" "I") ∈ lw_all := lw_g (lw_at lw_m4 186 rfl) rfl
theorem q978 : (Jvm.Cond.soleField "ChainPartsModel" "token") ∈ lw_all := lw_g (lw_at lw_m4 187 rfl) rfl
theorem q979 : (Jvm.Cond.lays "ChainPartsModel" "ChainPartsModel" "value" "I") ∈ lw_all := lw_g (lw_at lw_m4 188 rfl) rfl
theorem q980 : (Jvm.Cond.soleField "ChainPartsModel" "value") ∈ lw_all := lw_g (lw_at lw_m4 189 rfl) rfl
theorem q981 : (Jvm.Cond.lays "ChainPartsModel" "ChainPartsModel" "fault" "I") ∈ lw_all := lw_g (lw_at lw_m4 190 rfl) rfl
theorem q982 : (Jvm.Cond.soleField "ChainPartsModel" "fault") ∈ lw_all := lw_g (lw_at lw_m4 191 rfl) rfl
theorem q983 : (Jvm.Cond.lays "ChainPartsModel" "ChainPartsModel" "place" "I") ∈ lw_all := lw_g (lw_at lw_m4 192 rfl) rfl
theorem q984 : (Jvm.Cond.soleField "ChainPartsModel" "place") ∈ lw_all := lw_g (lw_at lw_m4 193 rfl) rfl
theorem q985 : (Jvm.Cond.lays "ChainPartsModel" "ChainPartsModel" "latest" "I") ∈ lw_all := lw_g (lw_at lw_m4 194 rfl) rfl
theorem q986 : (Jvm.Cond.soleField "ChainPartsModel" "latest") ∈ lw_all := lw_g (lw_at lw_m4 195 rfl) rfl
theorem q987 : (Jvm.Cond.laysFinal "ChainPartsModel" "ChainPartsModel" "m" "[J") ∈ lw_all := lw_g (lw_at lw_m4 196 rfl) rfl
theorem q988 : (Jvm.Cond.soleField "ChainPartsModel" "m") ∈ lw_all := lw_g (lw_at lw_m4 197 rfl) rfl
theorem q989 : (Jvm.Cond.laysFinal "ChainPartsModel" "ChainPartsModel" "solved" "[J") ∈ lw_all := lw_g (lw_at lw_m4 198 rfl) rfl
theorem q990 : (Jvm.Cond.soleField "ChainPartsModel" "solved") ∈ lw_all := lw_g (lw_at lw_m4 199 rfl) rfl
theorem q991 : (Jvm.Cond.lays "ChainPartsModel" "ChainPartsModel" "under" "J") ∈ lw_all := lw_g (lw_at lw_m4 200 rfl) rfl
theorem q992 : (Jvm.Cond.soleField "ChainPartsModel" "under") ∈ lw_all := lw_g (lw_at lw_m4 201 rfl) rfl
theorem q993 : (Jvm.Cond.laysFinal "ChainPartsModel" "ChainPartsModel" "above" "[J") ∈ lw_all := lw_g (lw_at lw_m4 202 rfl) rfl
theorem q994 : (Jvm.Cond.soleField "ChainPartsModel" "above") ∈ lw_all := lw_g (lw_at lw_m4 203 rfl) rfl
theorem q995 : (Jvm.Cond.laysFinal "ChainPartsModel" "ChainPartsModel" "below" "[J") ∈ lw_all := lw_g (lw_at lw_m4 204 rfl) rfl
theorem q996 : (Jvm.Cond.soleField "ChainPartsModel" "below") ∈ lw_all := lw_g (lw_at lw_m4 205 rfl) rfl
theorem q997 : (Jvm.Cond.laysFinal "ChainPartsModel" "ChainPartsModel" "boundAbove" "[J") ∈ lw_all := lw_g (lw_at lw_m4 206 rfl) rfl
theorem q998 : (Jvm.Cond.soleField "ChainPartsModel" "boundAbove") ∈ lw_all := lw_g (lw_at lw_m4 207 rfl) rfl
theorem q999 : (Jvm.Cond.laysFinal "ChainPartsModel" "ChainPartsModel" "boundBelow" "[J") ∈ lw_all := lw_g (lw_at lw_m4 208 rfl) rfl
theorem q1000 : (Jvm.Cond.soleField "ChainPartsModel" "boundBelow") ∈ lw_all := lw_g (lw_at lw_m4 209 rfl) rfl
theorem q1001 : (Jvm.Cond.lays "ChainPartsModel" "ChainPartsModel" "lengthAbove" "J") ∈ lw_all := lw_g (lw_at lw_m4 210 rfl) rfl
theorem q1002 : (Jvm.Cond.soleField "ChainPartsModel" "lengthAbove") ∈ lw_all := lw_g (lw_at lw_m4 211 rfl) rfl
theorem q1003 : (Jvm.Cond.lays "ChainPartsModel" "ChainPartsModel" "lengthBelow" "J") ∈ lw_all := lw_g (lw_at lw_m4 212 rfl) rfl
theorem q1004 : (Jvm.Cond.soleField "ChainPartsModel" "lengthBelow") ∈ lw_all := lw_g (lw_at lw_m4 213 rfl) rfl
theorem q1005 : (Jvm.Cond.superclass "ChainPartsModel" "java/lang/Object") ∈ lw_all := lw_g (lw_at lw_m4 214 rfl) rfl
theorem q1008 : (Jvm.Cond.instanceMethod ({ cls := "ChainPartsModel", name := "feed", desc := "(I)I" } : Jvm.MethodName)) ∈ lw_all := lw_g (lw_at lw_m4 217 rfl) rfl
theorem q1009 : (Jvm.Cond.selects "ChainPartsModel" ({ cls := "ChainPartsModel", name := "feed", desc := "(I)I" } : Jvm.MethodName) ({ cls := "ChainPartsModel", name := "feed", desc := "(I)I" } : Jvm.MethodName)) ∈ lw_all := lw_g (lw_at lw_m4 218 rfl) rfl
theorem q1010 : (Jvm.Cond.code ({ cls := "ChainPartsModel", name := "feed", desc := "(I)I" } : Jvm.MethodName) prog_14_method_50_code (2 : Nat) (Option.some Jvm.ClassFile.FieldType.int)) ∈ lw_all := lw_g (lw_at lw_m4 219 rfl) rfl
theorem q1011 : (Jvm.Cond.constantLong "ChainPartsModel" (216 : Nat) (255 : Int64)) ∈ lw_all := lw_g (lw_at lw_m4 220 rfl) rfl
theorem q1012 : (Jvm.Cond.methodLink "ChainPartsModel" (150 : Nat) ({ cls := "ChainPartsModel", name := "in", desc := "(JJJ)Z" } : Jvm.MethodName)) ∈ lw_all := lw_g (lw_at lw_m4 221 rfl) rfl
theorem q1013 : (Jvm.Cond.static ({ cls := "ChainPartsModel", name := "in", desc := "(JJJ)Z" } : Jvm.MethodName)) ∈ lw_all := lw_g (lw_at lw_m4 222 rfl) rfl
theorem q1014 : (Jvm.Cond.code ({ cls := "ChainPartsModel", name := "in", desc := "(JJJ)Z" } : Jvm.MethodName) prog_14_method_3_code (6 : Nat) (Option.some Jvm.ClassFile.FieldType.boolean)) ∈ lw_all := lw_g (lw_at lw_m4 223 rfl) rfl
theorem q1015 : (Jvm.Cond.constant "ChainPartsModel" (218 : Nat) (-1000001 : Int32)) ∈ lw_all := lw_g (lw_at lw_m4 224 rfl) rfl
theorem q1016 : (Jvm.Cond.constant "ChainPartsModel" (219 : Nat) (-1000003 : Int32)) ∈ lw_all := lw_g (lw_at lw_m4 225 rfl) rfl
theorem q1018 : (Jvm.Cond.instanceMethod ({ cls := "ChainPartsModel", name := "complex", desc := "()I" } : Jvm.MethodName)) ∈ lw_all := lw_g (lw_at lw_m4 227 rfl) rfl
theorem q1019 : (Jvm.Cond.selects "ChainPartsModel" ({ cls := "ChainPartsModel", name := "complex", desc := "()I" } : Jvm.MethodName) ({ cls := "ChainPartsModel", name := "complex", desc := "()I" } : Jvm.MethodName)) ∈ lw_all := lw_g (lw_at lw_m4 228 rfl) rfl
theorem q1020 : (Jvm.Cond.code ({ cls := "ChainPartsModel", name := "complex", desc := "()I" } : Jvm.MethodName) prog_14_method_51_code (2 : Nat) (Option.some Jvm.ClassFile.FieldType.int)) ∈ lw_all := lw_g (lw_at lw_m4 229 rfl) rfl
theorem q1021 : (Jvm.Cond.methodLink "ChainPartsModel" (171 : Nat) ({ cls := "ChainPartsModel", name := "reads", desc := "()V" } : Jvm.MethodName)) ∈ lw_all := lw_g (lw_at lw_m4 230 rfl) rfl
theorem q1022 : (Jvm.Cond.privateMethod ({ cls := "ChainPartsModel", name := "reads", desc := "()V" } : Jvm.MethodName)) ∈ lw_tbl := lw_at lw_m4 231 rfl
theorem q1023 : (Jvm.Cond.instanceMethod ({ cls := "ChainPartsModel", name := "reads", desc := "()V" } : Jvm.MethodName)) ∈ lw_all := lw_g (lw_at lw_m4 232 rfl) rfl
theorem q1024 : (Jvm.Cond.code ({ cls := "ChainPartsModel", name := "reads", desc := "()V" } : Jvm.MethodName) prog_14_method_36_code (2 : Nat) (Option.none : Option Jvm.ClassFile.FieldType)) ∈ lw_all := lw_g (lw_at lw_m4 233 rfl) rfl
theorem q1025 : (Jvm.Cond.methodLink "ChainPartsModel" (140 : Nat) ({ cls := "ChainPartsModel", name := "byteAt", desc := "(I)I" } : Jvm.MethodName)) ∈ lw_all := lw_g (lw_at lw_m4 234 rfl) rfl
theorem q1026 : (Jvm.Cond.privateMethod ({ cls := "ChainPartsModel", name := "byteAt", desc := "(I)I" } : Jvm.MethodName)) ∈ lw_tbl := lw_at lw_m4 235 rfl
theorem q1027 : (Jvm.Cond.instanceMethod ({ cls := "ChainPartsModel", name := "byteAt", desc := "(I)I" } : Jvm.MethodName)) ∈ lw_all := lw_g (lw_at lw_m4 236 rfl) rfl
theorem q1028 : (Jvm.Cond.code ({ cls := "ChainPartsModel", name := "byteAt", desc := "(I)I" } : Jvm.MethodName) prog_14_method_35_code (2 : Nat) (Option.some Jvm.ClassFile.FieldType.int)) ∈ lw_all := lw_g (lw_at lw_m4 237 rfl) rfl
theorem q1029 : (Jvm.Cond.constantLong "ChainPartsModel" (146 : Nat) (97 : Int64)) ∈ lw_all := lw_g (lw_at lw_m4 238 rfl) rfl
theorem q1030 : (Jvm.Cond.constantLong "ChainPartsModel" (148 : Nat) (122 : Int64)) ∈ lw_all := lw_g (lw_at lw_m4 239 rfl) rfl
theorem q1031 : (Jvm.Cond.constantLong "ChainPartsModel" (154 : Nat) (65 : Int64)) ∈ lw_all := lw_g (lw_at lw_m5 0 rfl) rfl
theorem q1032 : (Jvm.Cond.constantLong "ChainPartsModel" (156 : Nat) (90 : Int64)) ∈ lw_all := lw_g (lw_at lw_m5 1 rfl) rfl
theorem q1033 : (Jvm.Cond.constantLong "ChainPartsModel" (158 : Nat) (48 : Int64)) ∈ lw_all := lw_g (lw_at lw_m5 2 rfl) rfl
theorem q1034 : (Jvm.Cond.constantLong "ChainPartsModel" (160 : Nat) (57 : Int64)) ∈ lw_all := lw_g (lw_at lw_m5 3 rfl) rfl
theorem q1035 : (Jvm.Cond.methodLink "ChainPartsModel" (220 : Nat) ({ cls := "ChainPartsModel", name := "isLetter", desc := "(I)Z" } : Jvm.MethodName)) ∈ lw_all := lw_g (lw_at lw_m5 4 rfl) rfl
theorem q1036 : (Jvm.Cond.privateMethod ({ cls := "ChainPartsModel", name := "isLetter", desc := "(I)Z" } : Jvm.MethodName)) ∈ lw_tbl := lw_at lw_m5 5 rfl
theorem q1037 : (Jvm.Cond.instanceMethod ({ cls := "ChainPartsModel", name := "isLetter", desc := "(I)Z" } : Jvm.MethodName)) ∈ lw_all := lw_g (lw_at lw_m5 6 rfl) rfl
theorem q1038 : (Jvm.Cond.code ({ cls := "ChainPartsModel", name := "isLetter", desc := "(I)Z" } : Jvm.MethodName) prog_14_method_40_code (2 : Nat) (Option.some Jvm.ClassFile.FieldType.boolean)) ∈ lw_all := lw_g (lw_at lw_m5 7 rfl) rfl
theorem q1039 : (Jvm.Cond.methodLink "ChainPartsModel" (174 : Nat) ({ cls := "ChainPartsModel", name := "bad", desc := "(I)V" } : Jvm.MethodName)) ∈ lw_all := lw_g (lw_at lw_m5 8 rfl) rfl
theorem q1040 : (Jvm.Cond.privateMethod ({ cls := "ChainPartsModel", name := "bad", desc := "(I)V" } : Jvm.MethodName)) ∈ lw_tbl := lw_at lw_m5 9 rfl
theorem q1041 : (Jvm.Cond.instanceMethod ({ cls := "ChainPartsModel", name := "bad", desc := "(I)V" } : Jvm.MethodName)) ∈ lw_all := lw_g (lw_at lw_m5 10 rfl) rfl
theorem q1042 : (Jvm.Cond.code ({ cls := "ChainPartsModel", name := "bad", desc := "(I)V" } : Jvm.MethodName) prog_14_method_37_code (2 : Nat) (Option.none : Option Jvm.ClassFile.FieldType)) ∈ lw_all := lw_g (lw_at lw_m5 11 rfl) rfl
theorem q1043 : (Jvm.Cond.methodLink "ChainPartsModel" (178 : Nat) ({ cls := "ChainPartsModel", name := "goesOn", desc := "()V" } : Jvm.MethodName)) ∈ lw_all := lw_g (lw_at lw_m5 12 rfl) rfl
theorem q1044 : (Jvm.Cond.privateMethod ({ cls := "ChainPartsModel", name := "goesOn", desc := "()V" } : Jvm.MethodName)) ∈ lw_tbl := lw_at lw_m5 13 rfl
theorem q1045 : (Jvm.Cond.instanceMethod ({ cls := "ChainPartsModel", name := "goesOn", desc := "()V" } : Jvm.MethodName)) ∈ lw_all := lw_g (lw_at lw_m5 14 rfl) rfl
theorem q1046 : (Jvm.Cond.code ({ cls := "ChainPartsModel", name := "goesOn", desc := "()V" } : Jvm.MethodName) prog_14_method_38_code (1 : Nat) (Option.none : Option Jvm.ClassFile.FieldType)) ∈ lw_all := lw_g (lw_at lw_m5 15 rfl) rfl
theorem q1047 : (Jvm.Cond.methodLink "ChainPartsModel" (191 : Nat) ({ cls := "ChainPartsModel", name := "digit", desc := "(II)I" } : Jvm.MethodName)) ∈ lw_all := lw_g (lw_at lw_m5 16 rfl) rfl
theorem q1048 : (Jvm.Cond.privateMethod ({ cls := "ChainPartsModel", name := "digit", desc := "(II)I" } : Jvm.MethodName)) ∈ lw_tbl := lw_at lw_m5 17 rfl
theorem q1049 : (Jvm.Cond.instanceMethod ({ cls := "ChainPartsModel", name := "digit", desc := "(II)I" } : Jvm.MethodName)) ∈ lw_all := lw_g (lw_at lw_m5 18 rfl) rfl
theorem q1050 : (Jvm.Cond.code ({ cls := "ChainPartsModel", name := "digit", desc := "(II)I" } : Jvm.MethodName) prog_14_method_39_code (4 : Nat) (Option.some Jvm.ClassFile.FieldType.int)) ∈ lw_all := lw_g (lw_at lw_m5 19 rfl) rfl
theorem q1051 : (Jvm.Cond.methodLink "ChainPartsModel" (194 : Nat) ({ cls := "ChainPartsModel", name := "stop", desc := "()V" } : Jvm.MethodName)) ∈ lw_all := lw_g (lw_at lw_m5 20 rfl) rfl
theorem q1052 : (Jvm.Cond.privateMethod ({ cls := "ChainPartsModel", name := "stop", desc := "()V" } : Jvm.MethodName)) ∈ lw_tbl := lw_at lw_m5 21 rfl
theorem q1053 : (Jvm.Cond.instanceMethod ({ cls := "ChainPartsModel", name := "stop", desc := "()V" } : Jvm.MethodName)) ∈ lw_all := lw_g (lw_at lw_m5 22 rfl) rfl
theorem q1054 : (Jvm.Cond.code ({ cls := "ChainPartsModel", name := "stop", desc := "()V" } : Jvm.MethodName) prog_14_method_42_code (1 : Nat) (Option.none : Option Jvm.ClassFile.FieldType)) ∈ lw_all := lw_g (lw_at lw_m5 23 rfl) rfl
theorem q1055 : (Jvm.Cond.methodLink "ChainPartsModel" (181 : Nat) ({ cls := "ChainPartsModel", name := "isStop", desc := "()Z" } : Jvm.MethodName)) ∈ lw_all := lw_g (lw_at lw_m5 24 rfl) rfl
theorem q1056 : (Jvm.Cond.privateMethod ({ cls := "ChainPartsModel", name := "isStop", desc := "()Z" } : Jvm.MethodName)) ∈ lw_tbl := lw_at lw_m5 25 rfl
theorem q1057 : (Jvm.Cond.instanceMethod ({ cls := "ChainPartsModel", name := "isStop", desc := "()Z" } : Jvm.MethodName)) ∈ lw_all := lw_g (lw_at lw_m5 26 rfl) rfl
theorem q1058 : (Jvm.Cond.code ({ cls := "ChainPartsModel", name := "isStop", desc := "()Z" } : Jvm.MethodName) prog_14_method_41_code (1 : Nat) (Option.some Jvm.ClassFile.FieldType.boolean)) ∈ lw_all := lw_g (lw_at lw_m5 27 rfl) rfl
theorem q1059 : (Jvm.Cond.methodLink "ChainPartsModel" (224 : Nat) ({ cls := "ChainPartsModel", name := "readsEdge", desc := "()V" } : Jvm.MethodName)) ∈ lw_all := lw_g (lw_at lw_m5 28 rfl) rfl
theorem q1060 : (Jvm.Cond.privateMethod ({ cls := "ChainPartsModel", name := "readsEdge", desc := "()V" } : Jvm.MethodName)) ∈ lw_tbl := lw_at lw_m5 29 rfl
theorem q1061 : (Jvm.Cond.instanceMethod ({ cls := "ChainPartsModel", name := "readsEdge", desc := "()V" } : Jvm.MethodName)) ∈ lw_all := lw_g (lw_at lw_m5 30 rfl) rfl
theorem q1062 : (Jvm.Cond.code ({ cls := "ChainPartsModel", name := "readsEdge", desc := "()V" } : Jvm.MethodName) prog_14_method_47_code (5 : Nat) (Option.none : Option Jvm.ClassFile.FieldType)) ∈ lw_all := lw_g (lw_at lw_m5 31 rfl) rfl
theorem q1063 : (Jvm.Cond.methodLink "ChainPartsModel" (197 : Nat) ({ cls := "ChainPartsModel", name := "laysEdge", desc := "([IIII)V" } : Jvm.MethodName)) ∈ lw_all := lw_g (lw_at lw_m5 32 rfl) rfl
theorem q1064 : (Jvm.Cond.static ({ cls := "ChainPartsModel", name := "laysEdge", desc := "([IIII)V" } : Jvm.MethodName)) ∈ lw_all := lw_g (lw_at lw_m5 33 rfl) rfl
theorem q1065 : (Jvm.Cond.code ({ cls := "ChainPartsModel", name := "laysEdge", desc := "([IIII)V" } : Jvm.MethodName) prog_14_method_48_code (5 : Nat) (Option.none : Option Jvm.ClassFile.FieldType)) ∈ lw_all := lw_g (lw_at lw_m5 34 rfl) rfl
theorem q1066 : (Jvm.Cond.methodLink "ChainPartsModel" (227 : Nat) ({ cls := "ChainPartsModel", name := "readsFace", desc := "()V" } : Jvm.MethodName)) ∈ lw_all := lw_g (lw_at lw_m5 35 rfl) rfl
theorem q1067 : (Jvm.Cond.privateMethod ({ cls := "ChainPartsModel", name := "readsFace", desc := "()V" } : Jvm.MethodName)) ∈ lw_tbl := lw_at lw_m5 36 rfl
theorem q1068 : (Jvm.Cond.instanceMethod ({ cls := "ChainPartsModel", name := "readsFace", desc := "()V" } : Jvm.MethodName)) ∈ lw_all := lw_g (lw_at lw_m5 37 rfl) rfl
theorem q1069 : (Jvm.Cond.code ({ cls := "ChainPartsModel", name := "readsFace", desc := "()V" } : Jvm.MethodName) prog_14_method_49_code (4 : Nat) (Option.none : Option Jvm.ClassFile.FieldType)) ∈ lw_all := lw_g (lw_at lw_m5 38 rfl) rfl
theorem q1070 : (Jvm.Cond.methodLink "ChainPartsModel" (201 : Nat) ({ cls := "ChainPartsModel", name := "told", desc := "([II)I" } : Jvm.MethodName)) ∈ lw_all := lw_g (lw_at lw_m5 39 rfl) rfl
theorem q1071 : (Jvm.Cond.static ({ cls := "ChainPartsModel", name := "told", desc := "([II)I" } : Jvm.MethodName)) ∈ lw_all := lw_g (lw_at lw_m5 40 rfl) rfl
theorem q1072 : (Jvm.Cond.code ({ cls := "ChainPartsModel", name := "told", desc := "([II)I" } : Jvm.MethodName) prog_14_method_43_code (3 : Nat) (Option.some Jvm.ClassFile.FieldType.int)) ∈ lw_all := lw_g (lw_at lw_m5 41 rfl) rfl
theorem q1073 : (Jvm.Cond.methodLink "ChainPartsModel" (204 : Nat) ({ cls := "ChainPartsModel", name := "isNext", desc := "([III)Z" } : Jvm.MethodName)) ∈ lw_all := lw_g (lw_at lw_m5 42 rfl) rfl
theorem q1074 : (Jvm.Cond.static ({ cls := "ChainPartsModel", name := "isNext", desc := "([III)Z" } : Jvm.MethodName)) ∈ lw_all := lw_g (lw_at lw_m5 43 rfl) rfl
theorem q1075 : (Jvm.Cond.code ({ cls := "ChainPartsModel", name := "isNext", desc := "([III)Z" } : Jvm.MethodName) prog_14_method_44_code (4 : Nat) (Option.some Jvm.ClassFile.FieldType.boolean)) ∈ lw_all := lw_g (lw_at lw_m5 44 rfl) rfl
theorem q1076 : (Jvm.Cond.methodLink "ChainPartsModel" (60 : Nat) ({ cls := "ChainPartsModel", name := "many", desc := "([II)I" } : Jvm.MethodName)) ∈ lw_all := lw_g (lw_at lw_m5 45 rfl) rfl
theorem q1077 : (Jvm.Cond.static ({ cls := "ChainPartsModel", name := "many", desc := "([II)I" } : Jvm.MethodName)) ∈ lw_all := lw_g (lw_at lw_m5 46 rfl) rfl
theorem q1078 : (Jvm.Cond.code ({ cls := "ChainPartsModel", name := "many", desc := "([II)I" } : Jvm.MethodName) prog_14_method_12_code (2 : Nat) (Option.some Jvm.ClassFile.FieldType.int)) ∈ lw_all := lw_g (lw_at lw_m5 47 rfl) rfl
theorem q1079 : (Jvm.Cond.methodLink "ChainPartsModel" (64 : Nat) ({ cls := "ChainPartsModel", name := "letter", desc := "([III)I" } : Jvm.MethodName)) ∈ lw_all := lw_g (lw_at lw_m5 48 rfl) rfl
theorem q1080 : (Jvm.Cond.static ({ cls := "ChainPartsModel", name := "letter", desc := "([III)I" } : Jvm.MethodName)) ∈ lw_all := lw_g (lw_at lw_m5 49 rfl) rfl
theorem q1081 : (Jvm.Cond.code ({ cls := "ChainPartsModel", name := "letter", desc := "([III)I" } : Jvm.MethodName) prog_14_method_11_code (3 : Nat) (Option.some Jvm.ClassFile.FieldType.int)) ∈ lw_all := lw_g (lw_at lw_m5 50 rfl) rfl
theorem q1082 : (Jvm.Cond.methodLink "ChainPartsModel" (185 : Nat) ({ cls := "ChainPartsModel", name := "endOf", desc := "([II)I" } : Jvm.MethodName)) ∈ lw_all := lw_g (lw_at lw_m5 51 rfl) rfl
theorem q1083 : (Jvm.Cond.static ({ cls := "ChainPartsModel", name := "endOf", desc := "([II)I" } : Jvm.MethodName)) ∈ lw_all := lw_g (lw_at lw_m5 52 rfl) rfl
theorem q1084 : (Jvm.Cond.code ({ cls := "ChainPartsModel", name := "endOf", desc := "([II)I" } : Jvm.MethodName) prog_14_method_15_code (2 : Nat) (Option.some Jvm.ClassFile.FieldType.int)) ∈ lw_all := lw_g (lw_at lw_m5 53 rfl) rfl
theorem q1085 : (Jvm.Cond.methodLink "ChainPartsModel" (52 : Nat) ({ cls := "ChainPartsModel", name := "edgeOf", desc := "(I)I" } : Jvm.MethodName)) ∈ lw_all := lw_g (lw_at lw_m5 54 rfl) rfl
theorem q1086 : (Jvm.Cond.static ({ cls := "ChainPartsModel", name := "edgeOf", desc := "(I)I" } : Jvm.MethodName)) ∈ lw_all := lw_g (lw_at lw_m5 55 rfl) rfl
theorem q1087 : (Jvm.Cond.code ({ cls := "ChainPartsModel", name := "edgeOf", desc := "(I)I" } : Jvm.MethodName) prog_14_method_13_code (1 : Nat) (Option.some Jvm.ClassFile.FieldType.int)) ∈ lw_all := lw_g (lw_at lw_m5 56 rfl) rfl
theorem q1088 : (Jvm.Cond.methodLink "ChainPartsModel" (56 : Nat) ({ cls := "ChainPartsModel", name := "edgeAt", desc := "([III)I" } : Jvm.MethodName)) ∈ lw_all := lw_g (lw_at lw_m5 57 rfl) rfl
theorem q1089 : (Jvm.Cond.static ({ cls := "ChainPartsModel", name := "edgeAt", desc := "([III)I" } : Jvm.MethodName)) ∈ lw_all := lw_g (lw_at lw_m5 58 rfl) rfl
theorem q1090 : (Jvm.Cond.code ({ cls := "ChainPartsModel", name := "edgeAt", desc := "([III)I" } : Jvm.MethodName) prog_14_method_9_code (3 : Nat) (Option.some Jvm.ClassFile.FieldType.int)) ∈ lw_all := lw_g (lw_at lw_m5 59 rfl) rfl
theorem q1091 : (Jvm.Cond.methodLink "ChainPartsModel" (188 : Nat) ({ cls := "ChainPartsModel", name := "beginOf", desc := "([II)I" } : Jvm.MethodName)) ∈ lw_all := lw_g (lw_at lw_m5 60 rfl) rfl
theorem q1092 : (Jvm.Cond.static ({ cls := "ChainPartsModel", name := "beginOf", desc := "([II)I" } : Jvm.MethodName)) ∈ lw_all := lw_g (lw_at lw_m5 61 rfl) rfl
theorem q1093 : (Jvm.Cond.code ({ cls := "ChainPartsModel", name := "beginOf", desc := "([II)I" } : Jvm.MethodName) prog_14_method_14_code (2 : Nat) (Option.some Jvm.ClassFile.FieldType.int)) ∈ lw_all := lw_g (lw_at lw_m5 62 rfl) rfl
theorem q1094 : (Jvm.Cond.methodLink "ChainPartsModel" (208 : Nat) ({ cls := "ChainPartsModel", name := "spells", desc := "([III)V" } : Jvm.MethodName)) ∈ lw_all := lw_g (lw_at lw_m5 63 rfl) rfl
theorem q1095 : (Jvm.Cond.static ({ cls := "ChainPartsModel", name := "spells", desc := "([III)V" } : Jvm.MethodName)) ∈ lw_all := lw_g (lw_at lw_m5 64 rfl) rfl
theorem q1096 : (Jvm.Cond.code ({ cls := "ChainPartsModel", name := "spells", desc := "([III)V" } : Jvm.MethodName) prog_14_method_46_code (3 : Nat) (Option.none : Option Jvm.ClassFile.FieldType)) ∈ lw_all := lw_g (lw_at lw_m5 65 rfl) rfl
theorem q1097 : (Jvm.Cond.methodLink "ChainPartsModel" (212 : Nat) ({ cls := "ChainPartsModel", name := "isClosed", desc := "([II)Z" } : Jvm.MethodName)) ∈ lw_all := lw_g (lw_at lw_m5 66 rfl) rfl
theorem q1098 : (Jvm.Cond.static ({ cls := "ChainPartsModel", name := "isClosed", desc := "([II)Z" } : Jvm.MethodName)) ∈ lw_all := lw_g (lw_at lw_m5 67 rfl) rfl
theorem q1099 : (Jvm.Cond.code ({ cls := "ChainPartsModel", name := "isClosed", desc := "([II)Z" } : Jvm.MethodName) prog_14_method_45_code (3 : Nat) (Option.some Jvm.ClassFile.FieldType.boolean)) ∈ lw_all := lw_g (lw_at lw_m5 68 rfl) rfl
theorem q1100 : (Jvm.Cond.constant "ChainPartsModel" (233 : Nat) (-1000100 : Int32)) ∈ lw_all := lw_g (lw_at lw_m5 69 rfl) rfl
theorem q1101 : (Jvm.Cond.methodLink "ChainPartsModel" (234 : Nat) ({ cls := "ChainPartsModel", name := "copies", desc := "([II[II)V" } : Jvm.MethodName)) ∈ lw_all := lw_g (lw_at lw_m5 70 rfl) rfl
theorem q1102 : (Jvm.Cond.static ({ cls := "ChainPartsModel", name := "copies", desc := "([II[II)V" } : Jvm.MethodName)) ∈ lw_all := lw_g (lw_at lw_m5 71 rfl) rfl
theorem q1103 : (Jvm.Cond.code ({ cls := "ChainPartsModel", name := "copies", desc := "([II[II)V" } : Jvm.MethodName) prog_14_method_7_code (5 : Nat) (Option.none : Option Jvm.ClassFile.FieldType)) ∈ lw_all := lw_g (lw_at lw_m5 72 rfl) rfl
theorem q1105 : (Jvm.Cond.instanceMethod ({ cls := "ChainPartsModel", name := "fault", desc := "()I" } : Jvm.MethodName)) ∈ lw_all := lw_g (lw_at lw_m5 74 rfl) rfl
theorem q1106 : (Jvm.Cond.selects "ChainPartsModel" ({ cls := "ChainPartsModel", name := "fault", desc := "()I" } : Jvm.MethodName) ({ cls := "ChainPartsModel", name := "fault", desc := "()I" } : Jvm.MethodName)) ∈ lw_all := lw_g (lw_at lw_m5 75 rfl) rfl
theorem q1107 : (Jvm.Cond.code ({ cls := "ChainPartsModel", name := "fault", desc := "()I" } : Jvm.MethodName) prog_14_method_52_code (1 : Nat) (Option.some Jvm.ClassFile.FieldType.int)) ∈ lw_all := lw_g (lw_at lw_m5 76 rfl) rfl
theorem q1109 : (Jvm.Cond.instanceMethod ({ cls := "ChainPartsModel", name := "undo", desc := "()I" } : Jvm.MethodName)) ∈ lw_all := lw_g (lw_at lw_m5 78 rfl) rfl
theorem q1110 : (Jvm.Cond.selects "ChainPartsModel" ({ cls := "ChainPartsModel", name := "undo", desc := "()I" } : Jvm.MethodName) ({ cls := "ChainPartsModel", name := "undo", desc := "()I" } : Jvm.MethodName)) ∈ lw_all := lw_g (lw_at lw_m5 79 rfl) rfl
theorem q1111 : (Jvm.Cond.code ({ cls := "ChainPartsModel", name := "undo", desc := "()I" } : Jvm.MethodName) prog_14_method_54_code (1 : Nat) (Option.some Jvm.ClassFile.FieldType.int)) ∈ lw_all := lw_g (lw_at lw_m5 80 rfl) rfl
theorem q1112 : (Jvm.Cond.constant "ChainPartsModel" (241 : Nat) (-1000002 : Int32)) ∈ lw_all := lw_g (lw_at lw_m5 81 rfl) rfl
theorem q1114 : (Jvm.Cond.instanceMethod ({ cls := "ChainPartsModel", name := "weigh", desc := "(III)I" } : Jvm.MethodName)) ∈ lw_all := lw_g (lw_at lw_m5 83 rfl) rfl
theorem q1115 : (Jvm.Cond.selects "ChainPartsModel" ({ cls := "ChainPartsModel", name := "weigh", desc := "(III)I" } : Jvm.MethodName) ({ cls := "ChainPartsModel", name := "weigh", desc := "(III)I" } : Jvm.MethodName)) ∈ lw_all := lw_g (lw_at lw_m5 84 rfl) rfl
theorem q1116 : (Jvm.Cond.code ({ cls := "ChainPartsModel", name := "weigh", desc := "(III)I" } : Jvm.MethodName) prog_14_method_57_code (5 : Nat) (Option.some Jvm.ClassFile.FieldType.int)) ∈ lw_all := lw_g (lw_at lw_m5 85 rfl) rfl
theorem q1117 : (Jvm.Cond.methodLink "ChainPartsModel" (247 : Nat) ({ cls := "ChainPartsModel", name := "isCell", desc := "(II)Z" } : Jvm.MethodName)) ∈ lw_all := lw_g (lw_at lw_m5 86 rfl) rfl
theorem q1118 : (Jvm.Cond.privateMethod ({ cls := "ChainPartsModel", name := "isCell", desc := "(II)Z" } : Jvm.MethodName)) ∈ lw_tbl := lw_at lw_m5 87 rfl
theorem q1119 : (Jvm.Cond.instanceMethod ({ cls := "ChainPartsModel", name := "isCell", desc := "(II)Z" } : Jvm.MethodName)) ∈ lw_all := lw_g (lw_at lw_m5 88 rfl) rfl
theorem q1120 : (Jvm.Cond.code ({ cls := "ChainPartsModel", name := "isCell", desc := "(II)Z" } : Jvm.MethodName) prog_14_method_55_code (3 : Nat) (Option.some Jvm.ClassFile.FieldType.boolean)) ∈ lw_all := lw_g (lw_at lw_m5 89 rfl) rfl
theorem q1121 : (Jvm.Cond.constantLong "ChainPartsModel" (242 : Nat) (2 : Int64)) ∈ lw_all := lw_g (lw_at lw_m5 90 rfl) rfl
theorem q1122 : (Jvm.Cond.constantLong "ChainPartsModel" (250 : Nat) (3 : Int64)) ∈ lw_all := lw_g (lw_at lw_m5 91 rfl) rfl
theorem q1123 : (Jvm.Cond.methodLink "ChainPartsModel" (252 : Nat) ({ cls := "ChainPartsModel", name := "notes", desc := "()V" } : Jvm.MethodName)) ∈ lw_all := lw_g (lw_at lw_m5 92 rfl) rfl
theorem q1124 : (Jvm.Cond.privateMethod ({ cls := "ChainPartsModel", name := "notes", desc := "()V" } : Jvm.MethodName)) ∈ lw_tbl := lw_at lw_m5 93 rfl
theorem q1125 : (Jvm.Cond.instanceMethod ({ cls := "ChainPartsModel", name := "notes", desc := "()V" } : Jvm.MethodName)) ∈ lw_all := lw_g (lw_at lw_m5 94 rfl) rfl
theorem q1126 : (Jvm.Cond.code ({ cls := "ChainPartsModel", name := "notes", desc := "()V" } : Jvm.MethodName) prog_14_method_53_code (2 : Nat) (Option.none : Option Jvm.ClassFile.FieldType)) ∈ lw_all := lw_g (lw_at lw_m5 95 rfl) rfl
theorem q1127 : (Jvm.Cond.methodLink "ChainPartsModel" (81 : Nat) ({ cls := "ChainPartsModel", name := "weight", desc := "([III)I" } : Jvm.MethodName)) ∈ lw_all := lw_g (lw_at lw_m5 96 rfl) rfl
theorem q1128 : (Jvm.Cond.static ({ cls := "ChainPartsModel", name := "weight", desc := "([III)I" } : Jvm.MethodName)) ∈ lw_all := lw_g (lw_at lw_m5 97 rfl) rfl
theorem q1129 : (Jvm.Cond.code ({ cls := "ChainPartsModel", name := "weight", desc := "([III)I" } : Jvm.MethodName) prog_14_method_10_code (3 : Nat) (Option.some Jvm.ClassFile.FieldType.int)) ∈ lw_all := lw_g (lw_at lw_m5 98 rfl) rfl
theorem q1131 : (Jvm.Cond.instanceMethod ({ cls := "ChainPartsModel", name := "edge", desc := "(III)I" } : Jvm.MethodName)) ∈ lw_all := lw_g (lw_at lw_m5 100 rfl) rfl
theorem q1132 : (Jvm.Cond.selects "ChainPartsModel" ({ cls := "ChainPartsModel", name := "edge", desc := "(III)I" } : Jvm.MethodName) ({ cls := "ChainPartsModel", name := "edge", desc := "(III)I" } : Jvm.MethodName)) ∈ lw_all := lw_g (lw_at lw_m5 101 rfl) rfl
theorem q1133 : (Jvm.Cond.code ({ cls := "ChainPartsModel", name := "edge", desc := "(III)I" } : Jvm.MethodName) prog_14_method_58_code (5 : Nat) (Option.some Jvm.ClassFile.FieldType.int)) ∈ lw_all := lw_g (lw_at lw_m5 102 rfl) rfl
theorem q1134 : (Jvm.Cond.methodLink "ChainPartsModel" (244 : Nat) ({ cls := "ChainPartsModel", name := "isComplex", desc := "()Z" } : Jvm.MethodName)) ∈ lw_all := lw_g (lw_at lw_m5 103 rfl) rfl
theorem q1135 : (Jvm.Cond.privateMethod ({ cls := "ChainPartsModel", name := "isComplex", desc := "()Z" } : Jvm.MethodName)) ∈ lw_tbl := lw_at lw_m5 104 rfl
theorem q1136 : (Jvm.Cond.instanceMethod ({ cls := "ChainPartsModel", name := "isComplex", desc := "()Z" } : Jvm.MethodName)) ∈ lw_all := lw_g (lw_at lw_m5 105 rfl) rfl
theorem q1137 : (Jvm.Cond.code ({ cls := "ChainPartsModel", name := "isComplex", desc := "()Z" } : Jvm.MethodName) prog_14_method_8_code (1 : Nat) (Option.some Jvm.ClassFile.FieldType.boolean)) ∈ lw_all := lw_g (lw_at lw_m5 106 rfl) rfl
theorem q1139 : (Jvm.Cond.instanceMethod ({ cls := "ChainPartsModel", name := "face", desc := "(I)I" } : Jvm.MethodName)) ∈ lw_all := lw_g (lw_at lw_m5 108 rfl) rfl
theorem q1140 : (Jvm.Cond.selects "ChainPartsModel" ({ cls := "ChainPartsModel", name := "face", desc := "(I)I" } : Jvm.MethodName) ({ cls := "ChainPartsModel", name := "face", desc := "(I)I" } : Jvm.MethodName)) ∈ lw_all := lw_g (lw_at lw_m5 109 rfl) rfl
theorem q1141 : (Jvm.Cond.code ({ cls := "ChainPartsModel", name := "face", desc := "(I)I" } : Jvm.MethodName) prog_14_method_60_code (4 : Nat) (Option.some Jvm.ClassFile.FieldType.int)) ∈ lw_all := lw_g (lw_at lw_m5 110 rfl) rfl
theorem q1142 : (Jvm.Cond.methodLink "ChainPartsModel" (257 : Nat) ({ cls := "ChainPartsModel", name := "isWord", desc := "(I)Z" } : Jvm.MethodName)) ∈ lw_all := lw_g (lw_at lw_m5 111 rfl) rfl
theorem q1143 : (Jvm.Cond.privateMethod ({ cls := "ChainPartsModel", name := "isWord", desc := "(I)Z" } : Jvm.MethodName)) ∈ lw_tbl := lw_at lw_m5 112 rfl
theorem q1144 : (Jvm.Cond.instanceMethod ({ cls := "ChainPartsModel", name := "isWord", desc := "(I)Z" } : Jvm.MethodName)) ∈ lw_all := lw_g (lw_at lw_m5 113 rfl) rfl
theorem q1145 : (Jvm.Cond.code ({ cls := "ChainPartsModel", name := "isWord", desc := "(I)Z" } : Jvm.MethodName) prog_14_method_59_code (5 : Nat) (Option.some Jvm.ClassFile.FieldType.boolean)) ∈ lw_all := lw_g (lw_at lw_m5 114 rfl) rfl
theorem q1146 : (Jvm.Cond.constantLong "ChainPartsModel" (255 : Nat) (4 : Int64)) ∈ lw_all := lw_g (lw_at lw_m5 115 rfl) rfl
theorem q1148 : (Jvm.Cond.instanceMethod ({ cls := "ChainPartsModel", name := "drop", desc := "(II)I" } : Jvm.MethodName)) ∈ lw_all := lw_g (lw_at lw_m5 117 rfl) rfl
theorem q1149 : (Jvm.Cond.selects "ChainPartsModel" ({ cls := "ChainPartsModel", name := "drop", desc := "(II)I" } : Jvm.MethodName) ({ cls := "ChainPartsModel", name := "drop", desc := "(II)I" } : Jvm.MethodName)) ∈ lw_all := lw_g (lw_at lw_m5 118 rfl) rfl
theorem q1150 : (Jvm.Cond.code ({ cls := "ChainPartsModel", name := "drop", desc := "(II)I" } : Jvm.MethodName) prog_14_method_63_code (4 : Nat) (Option.some Jvm.ClassFile.FieldType.int)) ∈ lw_all := lw_g (lw_at lw_m5 119 rfl) rfl
theorem q1151 : (Jvm.Cond.methodLink "ChainPartsModel" (260 : Nat) ({ cls := "ChainPartsModel", name := "isSpelled", desc := "(I)Z" } : Jvm.MethodName)) ∈ lw_all := lw_g (lw_at lw_m5 120 rfl) rfl
theorem q1152 : (Jvm.Cond.privateMethod ({ cls := "ChainPartsModel", name := "isSpelled", desc := "(I)Z" } : Jvm.MethodName)) ∈ lw_tbl := lw_at lw_m5 121 rfl
theorem q1153 : (Jvm.Cond.instanceMethod ({ cls := "ChainPartsModel", name := "isSpelled", desc := "(I)Z" } : Jvm.MethodName)) ∈ lw_all := lw_g (lw_at lw_m5 122 rfl) rfl
theorem q1154 : (Jvm.Cond.code ({ cls := "ChainPartsModel", name := "isSpelled", desc := "(I)Z" } : Jvm.MethodName) prog_14_method_61_code (4 : Nat) (Option.some Jvm.ClassFile.FieldType.boolean)) ∈ lw_all := lw_g (lw_at lw_m5 123 rfl) rfl
theorem q1155 : (Jvm.Cond.methodLink "ChainPartsModel" (263 : Nat) ({ cls := "ChainPartsModel", name := "dropsEdge", desc := "(I)V" } : Jvm.MethodName)) ∈ lw_all := lw_g (lw_at lw_m5 124 rfl) rfl
theorem q1156 : (Jvm.Cond.privateMethod ({ cls := "ChainPartsModel", name := "dropsEdge", desc := "(I)V" } : Jvm.MethodName)) ∈ lw_tbl := lw_at lw_m5 125 rfl
theorem q1157 : (Jvm.Cond.instanceMethod ({ cls := "ChainPartsModel", name := "dropsEdge", desc := "(I)V" } : Jvm.MethodName)) ∈ lw_all := lw_g (lw_at lw_m5 126 rfl) rfl
theorem q1158 : (Jvm.Cond.code ({ cls := "ChainPartsModel", name := "dropsEdge", desc := "(I)V" } : Jvm.MethodName) prog_14_method_62_code (5 : Nat) (Option.none : Option Jvm.ClassFile.FieldType)) ∈ lw_all := lw_g (lw_at lw_m5 127 rfl) rfl
theorem q1160 : (Jvm.Cond.instanceMethod ({ cls := "ChainPartsModel", name := "put", desc := "(III)I" } : Jvm.MethodName)) ∈ lw_all := lw_g (lw_at lw_m5 129 rfl) rfl
theorem q1161 : (Jvm.Cond.selects "ChainPartsModel" ({ cls := "ChainPartsModel", name := "put", desc := "(III)I" } : Jvm.MethodName) ({ cls := "ChainPartsModel", name := "put", desc := "(III)I" } : Jvm.MethodName)) ∈ lw_all := lw_g (lw_at lw_m5 130 rfl) rfl
theorem q1162 : (Jvm.Cond.code ({ cls := "ChainPartsModel", name := "put", desc := "(III)I" } : Jvm.MethodName) prog_14_method_65_code (5 : Nat) (Option.some Jvm.ClassFile.FieldType.int)) ∈ lw_all := lw_g (lw_at lw_m5 131 rfl) rfl
theorem q1163 : (Jvm.Cond.methodLink "ChainPartsModel" (266 : Nat) ({ cls := "ChainPartsModel", name := "isChain", desc := "(I)Z" } : Jvm.MethodName)) ∈ lw_all := lw_g (lw_at lw_m5 132 rfl) rfl
theorem q1164 : (Jvm.Cond.privateMethod ({ cls := "ChainPartsModel", name := "isChain", desc := "(I)Z" } : Jvm.MethodName)) ∈ lw_tbl := lw_at lw_m5 133 rfl
theorem q1165 : (Jvm.Cond.instanceMethod ({ cls := "ChainPartsModel", name := "isChain", desc := "(I)Z" } : Jvm.MethodName)) ∈ lw_all := lw_g (lw_at lw_m5 134 rfl) rfl
theorem q1166 : (Jvm.Cond.code ({ cls := "ChainPartsModel", name := "isChain", desc := "(I)Z" } : Jvm.MethodName) prog_14_method_56_code (2 : Nat) (Option.some Jvm.ClassFile.FieldType.boolean)) ∈ lw_all := lw_g (lw_at lw_m5 135 rfl) rfl
theorem q1167 : (Jvm.Cond.constantLong "ChainPartsModel" (269 : Nat) (-9 : Int64)) ∈ lw_all := lw_g (lw_at lw_m5 136 rfl) rfl
theorem q1168 : (Jvm.Cond.constantLong "ChainPartsModel" (271 : Nat) (9 : Int64)) ∈ lw_all := lw_g (lw_at lw_m5 137 rfl) rfl
theorem q1170 : (Jvm.Cond.instanceMethod ({ cls := "ChainPartsModel", name := "bound", desc := "(III)I" } : Jvm.MethodName)) ∈ lw_all := lw_g (lw_at lw_m5 139 rfl) rfl
theorem q1171 : (Jvm.Cond.selects "ChainPartsModel" ({ cls := "ChainPartsModel", name := "bound", desc := "(III)I" } : Jvm.MethodName) ({ cls := "ChainPartsModel", name := "bound", desc := "(III)I" } : Jvm.MethodName)) ∈ lw_all := lw_g (lw_at lw_m5 140 rfl) rfl
theorem q1172 : (Jvm.Cond.code ({ cls := "ChainPartsModel", name := "bound", desc := "(III)I" } : Jvm.MethodName) prog_14_method_66_code (5 : Nat) (Option.some Jvm.ClassFile.FieldType.int)) ∈ lw_all := lw_g (lw_at lw_m5 141 rfl) rfl
theorem q1173 : (Jvm.Cond.methodLink "ChainPartsModel" (71 : Nat) ({ cls := "ChainPartsModel", name := "two", desc := "(II)I" } : Jvm.MethodName)) ∈ lw_all := lw_g (lw_at lw_m5 142 rfl) rfl
theorem q1174 : (Jvm.Cond.privateMethod ({ cls := "ChainPartsModel", name := "two", desc := "(II)I" } : Jvm.MethodName)) ∈ lw_tbl := lw_at lw_m5 143 rfl
theorem q1175 : (Jvm.Cond.instanceMethod ({ cls := "ChainPartsModel", name := "two", desc := "(II)I" } : Jvm.MethodName)) ∈ lw_all := lw_g (lw_at lw_m5 144 rfl) rfl
theorem q1176 : (Jvm.Cond.code ({ cls := "ChainPartsModel", name := "two", desc := "(II)I" } : Jvm.MethodName) prog_14_method_17_code (5 : Nat) (Option.some Jvm.ClassFile.FieldType.int)) ∈ lw_all := lw_g (lw_at lw_m5 145 rfl) rfl
theorem q1177 : (Jvm.Cond.methodLink "ChainPartsModel" (273 : Nat) ({ cls := "ChainPartsModel", name := "others", desc := "(I)I" } : Jvm.MethodName)) ∈ lw_all := lw_g (lw_at lw_m5 146 rfl) rfl
theorem q1178 : (Jvm.Cond.privateMethod ({ cls := "ChainPartsModel", name := "others", desc := "(I)I" } : Jvm.MethodName)) ∈ lw_tbl := lw_at lw_m5 147 rfl
theorem q1179 : (Jvm.Cond.instanceMethod ({ cls := "ChainPartsModel", name := "others", desc := "(I)I" } : Jvm.MethodName)) ∈ lw_all := lw_g (lw_at lw_m5 148 rfl) rfl
theorem q1180 : (Jvm.Cond.code ({ cls := "ChainPartsModel", name := "others", desc := "(I)I" } : Jvm.MethodName) prog_14_method_64_code (4 : Nat) (Option.some Jvm.ClassFile.FieldType.int)) ∈ lw_all := lw_g (lw_at lw_m5 149 rfl) rfl
theorem q1182 : (Jvm.Cond.instanceMethod ({ cls := "ChainPartsModel", name := "drawn", desc := "(II)I" } : Jvm.MethodName)) ∈ lw_all := lw_g (lw_at lw_m5 151 rfl) rfl
theorem q1183 : (Jvm.Cond.selects "ChainPartsModel" ({ cls := "ChainPartsModel", name := "drawn", desc := "(II)I" } : Jvm.MethodName) ({ cls := "ChainPartsModel", name := "drawn", desc := "(II)I" } : Jvm.MethodName)) ∈ lw_all := lw_g (lw_at lw_m5 152 rfl) rfl
theorem q1184 : (Jvm.Cond.code ({ cls := "ChainPartsModel", name := "drawn", desc := "(II)I" } : Jvm.MethodName) prog_14_method_67_code (6 : Nat) (Option.some Jvm.ClassFile.FieldType.int)) ∈ lw_all := lw_g (lw_at lw_m5 153 rfl) rfl
theorem q1185 : (Jvm.Cond.constantLong "ChainPartsModel" (276 : Nat) (999999 : Int64)) ∈ lw_all := lw_g (lw_at lw_m5 154 rfl) rfl
theorem q1186 : (Jvm.Cond.constantLong "ChainPartsModel" (278 : Nat) (16807 : Int64)) ∈ lw_all := lw_g (lw_at lw_m5 155 rfl) rfl
theorem q1187 : (Jvm.Cond.constantLong "ChainPartsModel" (280 : Nat) (2147483647 : Int64)) ∈ lw_all := lw_g (lw_at lw_m5 156 rfl) rfl
theorem q1188 : (Jvm.Cond.constantLong "ChainPartsModel" (282 : Nat) (19 : Int64)) ∈ lw_all := lw_g (lw_at lw_m5 157 rfl) rfl
theorem q1190 : (Jvm.Cond.instanceMethod ({ cls := "ChainPartsModel", name := "cell", desc := "(III)I" } : Jvm.MethodName)) ∈ lw_all := lw_g (lw_at lw_m5 159 rfl) rfl
theorem q1191 : (Jvm.Cond.selects "ChainPartsModel" ({ cls := "ChainPartsModel", name := "cell", desc := "(III)I" } : Jvm.MethodName) ({ cls := "ChainPartsModel", name := "cell", desc := "(III)I" } : Jvm.MethodName)) ∈ lw_all := lw_g (lw_at lw_m5 160 rfl) rfl
theorem q1192 : (Jvm.Cond.code ({ cls := "ChainPartsModel", name := "cell", desc := "(III)I" } : Jvm.MethodName) prog_14_method_69_code (4 : Nat) (Option.some Jvm.ClassFile.FieldType.int)) ∈ lw_all := lw_g (lw_at lw_m5 161 rfl) rfl
theorem q1193 : (Jvm.Cond.constantLong "ChainPartsModel" (284 : Nat) (10 : Int64)) ∈ lw_all := lw_g (lw_at lw_m5 162 rfl) rfl
theorem q1194 : (Jvm.Cond.constantLong "ChainPartsModel" (286 : Nat) (13 : Int64)) ∈ lw_all := lw_g (lw_at lw_m5 163 rfl) rfl
theorem q1195 : (Jvm.Cond.methodLink "ChainPartsModel" (288 : Nat) ({ cls := "ChainPartsModel", name := "code", desc := "(I)I" } : Jvm.MethodName)) ∈ lw_all := lw_g (lw_at lw_m5 164 rfl) rfl
theorem q1196 : (Jvm.Cond.privateMethod ({ cls := "ChainPartsModel", name := "code", desc := "(I)I" } : Jvm.MethodName)) ∈ lw_tbl := lw_at lw_m5 165 rfl
theorem q1197 : (Jvm.Cond.instanceMethod ({ cls := "ChainPartsModel", name := "code", desc := "(I)I" } : Jvm.MethodName)) ∈ lw_all := lw_g (lw_at lw_m5 166 rfl) rfl
theorem q1198 : (Jvm.Cond.code ({ cls := "ChainPartsModel", name := "code", desc := "(I)I" } : Jvm.MethodName) prog_14_method_68_code (2 : Nat) (Option.some Jvm.ClassFile.FieldType.int)) ∈ lw_all := lw_g (lw_at lw_m5 167 rfl) rfl
theorem q1199 : (Jvm.Cond.constant "ChainPartsModel" (291 : Nat) (-1000000 : Int32)) ∈ lw_all := lw_g (lw_at lw_m5 168 rfl) rfl
theorem q1201 : (Jvm.Cond.instanceMethod ({ cls := "ChainPartsModel", name := "as", desc := "(III)I" } : Jvm.MethodName)) ∈ lw_all := lw_g (lw_at lw_m5 170 rfl) rfl
theorem q1202 : (Jvm.Cond.selects "ChainPartsModel" ({ cls := "ChainPartsModel", name := "as", desc := "(III)I" } : Jvm.MethodName) ({ cls := "ChainPartsModel", name := "as", desc := "(III)I" } : Jvm.MethodName)) ∈ lw_all := lw_g (lw_at lw_m5 171 rfl) rfl
theorem q1203 : (Jvm.Cond.code ({ cls := "ChainPartsModel", name := "as", desc := "(III)I" } : Jvm.MethodName) prog_14_method_71_code (5 : Nat) (Option.some Jvm.ClassFile.FieldType.int)) ∈ lw_all := lw_g (lw_at lw_m5 172 rfl) rfl
theorem q1204 : (Jvm.Cond.constantLong "ChainPartsModel" (292 : Nat) (5 : Int64)) ∈ lw_all := lw_g (lw_at lw_m5 173 rfl) rfl
theorem q1205 : (Jvm.Cond.methodLink "ChainPartsModel" (294 : Nat) ({ cls := "ChainPartsModel", name := "isSealed", desc := "(I)Z" } : Jvm.MethodName)) ∈ lw_all := lw_g (lw_at lw_m5 174 rfl) rfl
theorem q1206 : (Jvm.Cond.privateMethod ({ cls := "ChainPartsModel", name := "isSealed", desc := "(I)Z" } : Jvm.MethodName)) ∈ lw_tbl := lw_at lw_m5 175 rfl
theorem q1207 : (Jvm.Cond.instanceMethod ({ cls := "ChainPartsModel", name := "isSealed", desc := "(I)Z" } : Jvm.MethodName)) ∈ lw_all := lw_g (lw_at lw_m5 176 rfl) rfl
theorem q1208 : (Jvm.Cond.code ({ cls := "ChainPartsModel", name := "isSealed", desc := "(I)Z" } : Jvm.MethodName) prog_14_method_70_code (4 : Nat) (Option.some Jvm.ClassFile.FieldType.boolean)) ∈ lw_all := lw_g (lw_at lw_m5 177 rfl) rfl
theorem q1210 : (Jvm.Cond.instanceMethod ({ cls := "ChainPartsModel", name := "table", desc := "(III)I" } : Jvm.MethodName)) ∈ lw_all := lw_g (lw_at lw_m5 179 rfl) rfl
theorem q1211 : (Jvm.Cond.selects "ChainPartsModel" ({ cls := "ChainPartsModel", name := "table", desc := "(III)I" } : Jvm.MethodName) ({ cls := "ChainPartsModel", name := "table", desc := "(III)I" } : Jvm.MethodName)) ∈ lw_all := lw_g (lw_at lw_m5 180 rfl) rfl
theorem q1212 : (Jvm.Cond.code ({ cls := "ChainPartsModel", name := "table", desc := "(III)I" } : Jvm.MethodName) prog_14_method_72_code (4 : Nat) (Option.some Jvm.ClassFile.FieldType.int)) ∈ lw_all := lw_g (lw_at lw_m5 181 rfl) rfl
theorem q1213 : (Jvm.Cond.methodLink "ChainPartsModel" (96 : Nat) ({ cls := "ChainPartsModel", name := "rows", desc := "(I)I" } : Jvm.MethodName)) ∈ lw_all := lw_g (lw_at lw_m5 182 rfl) rfl
theorem q1214 : (Jvm.Cond.privateMethod ({ cls := "ChainPartsModel", name := "rows", desc := "(I)I" } : Jvm.MethodName)) ∈ lw_tbl := lw_at lw_m5 183 rfl
theorem q1215 : (Jvm.Cond.instanceMethod ({ cls := "ChainPartsModel", name := "rows", desc := "(I)I" } : Jvm.MethodName)) ∈ lw_all := lw_g (lw_at lw_m5 184 rfl) rfl
theorem q1216 : (Jvm.Cond.code ({ cls := "ChainPartsModel", name := "rows", desc := "(I)I" } : Jvm.MethodName) prog_14_method_18_code (2 : Nat) (Option.some Jvm.ClassFile.FieldType.int)) ∈ lw_all := lw_g (lw_at lw_m5 185 rfl) rfl
theorem q1217 : (Jvm.Cond.methodLink "ChainPartsModel" (74 : Nat) ({ cls := "ChainPartsModel", name := "columns", desc := "(I)I" } : Jvm.MethodName)) ∈ lw_all := lw_g (lw_at lw_m5 186 rfl) rfl
theorem q1218 : (Jvm.Cond.privateMethod ({ cls := "ChainPartsModel", name := "columns", desc := "(I)I" } : Jvm.MethodName)) ∈ lw_tbl := lw_at lw_m5 187 rfl
theorem q1219 : (Jvm.Cond.instanceMethod ({ cls := "ChainPartsModel", name := "columns", desc := "(I)I" } : Jvm.MethodName)) ∈ lw_all := lw_g (lw_at lw_m5 188 rfl) rfl
theorem q1220 : (Jvm.Cond.code ({ cls := "ChainPartsModel", name := "columns", desc := "(I)I" } : Jvm.MethodName) prog_14_method_19_code (2 : Nat) (Option.some Jvm.ClassFile.FieldType.int)) ∈ lw_all := lw_g (lw_at lw_m5 189 rfl) rfl
theorem q1221 : (Jvm.Cond.methodLink "ChainPartsModel" (77 : Nat) ({ cls := "ChainPartsModel", name := "entry", desc := "(III)I" } : Jvm.MethodName)) ∈ lw_all := lw_g (lw_at lw_m5 190 rfl) rfl
theorem q1222 : (Jvm.Cond.privateMethod ({ cls := "ChainPartsModel", name := "entry", desc := "(III)I" } : Jvm.MethodName)) ∈ lw_tbl := lw_at lw_m5 191 rfl
theorem q1223 : (Jvm.Cond.instanceMethod ({ cls := "ChainPartsModel", name := "entry", desc := "(III)I" } : Jvm.MethodName)) ∈ lw_all := lw_g (lw_at lw_m5 192 rfl) rfl
theorem q1224 : (Jvm.Cond.code ({ cls := "ChainPartsModel", name := "entry", desc := "(III)I" } : Jvm.MethodName) prog_14_method_20_code (4 : Nat) (Option.some Jvm.ClassFile.FieldType.int)) ∈ lw_all := lw_g (lw_at lw_m5 193 rfl) rfl
theorem q1225 : (Jvm.Cond.methodLink "ChainPartsModel" (67 : Nat) ({ cls := "ChainPartsModel", name := "one", desc := "(II)I" } : Jvm.MethodName)) ∈ lw_all := lw_g (lw_at lw_m5 194 rfl) rfl
theorem q1226 : (Jvm.Cond.privateMethod ({ cls := "ChainPartsModel", name := "one", desc := "(II)I" } : Jvm.MethodName)) ∈ lw_tbl := lw_at lw_m5 195 rfl
theorem q1227 : (Jvm.Cond.instanceMethod ({ cls := "ChainPartsModel", name := "one", desc := "(II)I" } : Jvm.MethodName)) ∈ lw_all := lw_g (lw_at lw_m5 196 rfl) rfl
theorem q1228 : (Jvm.Cond.code ({ cls := "ChainPartsModel", name := "one", desc := "(II)I" } : Jvm.MethodName) prog_14_method_16_code (3 : Nat) (Option.some Jvm.ClassFile.FieldType.int)) ∈ lw_all := lw_g (lw_at lw_m5 197 rfl) rfl
theorem q1230 : (Jvm.Cond.instanceMethod ({ cls := "ChainPartsModel", name := "near", desc := "(III)I" } : Jvm.MethodName)) ∈ lw_all := lw_g (lw_at lw_m5 199 rfl) rfl
theorem q1231 : (Jvm.Cond.selects "ChainPartsModel" ({ cls := "ChainPartsModel", name := "near", desc := "(III)I" } : Jvm.MethodName) ({ cls := "ChainPartsModel", name := "near", desc := "(III)I" } : Jvm.MethodName)) ∈ lw_all := lw_g (lw_at lw_m5 200 rfl) rfl
theorem q1232 : (Jvm.Cond.code ({ cls := "ChainPartsModel", name := "near", desc := "(III)I" } : Jvm.MethodName) prog_14_method_74_code (4 : Nat) (Option.some Jvm.ClassFile.FieldType.int)) ∈ lw_all := lw_g (lw_at lw_m5 201 rfl) rfl
theorem q1233 : (Jvm.Cond.methodLink "ChainPartsModel" (297 : Nat) ({ cls := "ChainPartsModel", name := "nearSize", desc := "(I)I" } : Jvm.MethodName)) ∈ lw_all := lw_g (lw_at lw_m5 202 rfl) rfl
theorem q1234 : (Jvm.Cond.privateMethod ({ cls := "ChainPartsModel", name := "nearSize", desc := "(I)I" } : Jvm.MethodName)) ∈ lw_tbl := lw_at lw_m5 203 rfl
theorem q1235 : (Jvm.Cond.instanceMethod ({ cls := "ChainPartsModel", name := "nearSize", desc := "(I)I" } : Jvm.MethodName)) ∈ lw_all := lw_g (lw_at lw_m5 204 rfl) rfl
theorem q1236 : (Jvm.Cond.code ({ cls := "ChainPartsModel", name := "nearSize", desc := "(I)I" } : Jvm.MethodName) prog_14_method_73_code (2 : Nat) (Option.some Jvm.ClassFile.FieldType.int)) ∈ lw_all := lw_g (lw_at lw_m5 205 rfl) rfl
theorem q1237 : (Jvm.Cond.methodLink "ChainPartsModel" (300 : Nat) ({ cls := "ChainPartsModel", name := "nearBy", desc := "(III)I" } : Jvm.MethodName)) ∈ lw_all := lw_g (lw_at lw_m5 206 rfl) rfl
theorem q1238 : (Jvm.Cond.privateMethod ({ cls := "ChainPartsModel", name := "nearBy", desc := "(III)I" } : Jvm.MethodName)) ∈ lw_tbl := lw_at lw_m5 207 rfl
theorem q1239 : (Jvm.Cond.instanceMethod ({ cls := "ChainPartsModel", name := "nearBy", desc := "(III)I" } : Jvm.MethodName)) ∈ lw_all := lw_g (lw_at lw_m5 208 rfl) rfl
theorem q1240 : (Jvm.Cond.code ({ cls := "ChainPartsModel", name := "nearBy", desc := "(III)I" } : Jvm.MethodName) prog_14_method_21_code (7 : Nat) (Option.some Jvm.ClassFile.FieldType.int)) ∈ lw_all := lw_g (lw_at lw_m5 209 rfl) rfl
theorem q1242 : (Jvm.Cond.instanceMethod ({ cls := "ChainPartsModel", name := "rank", desc := "(II)I" } : Jvm.MethodName)) ∈ lw_all := lw_g (lw_at lw_m5 211 rfl) rfl
theorem q1243 : (Jvm.Cond.selects "ChainPartsModel" ({ cls := "ChainPartsModel", name := "rank", desc := "(II)I" } : Jvm.MethodName) ({ cls := "ChainPartsModel", name := "rank", desc := "(II)I" } : Jvm.MethodName)) ∈ lw_all := lw_g (lw_at lw_m5 212 rfl) rfl
theorem q1244 : (Jvm.Cond.code ({ cls := "ChainPartsModel", name := "rank", desc := "(II)I" } : Jvm.MethodName) prog_14_method_77_code (3 : Nat) (Option.some Jvm.ClassFile.FieldType.int)) ∈ lw_all := lw_g (lw_at lw_m5 213 rfl) rfl
theorem q1245 : (Jvm.Cond.methodLink "ChainPartsModel" (312 : Nat) ({ cls := "ChainPartsModel", name := "isPrime", desc := "(I)Z" } : Jvm.MethodName)) ∈ lw_all := lw_g (lw_at lw_m5 214 rfl) rfl
theorem q1246 : (Jvm.Cond.static ({ cls := "ChainPartsModel", name := "isPrime", desc := "(I)Z" } : Jvm.MethodName)) ∈ lw_all := lw_g (lw_at lw_m5 215 rfl) rfl
theorem q1247 : (Jvm.Cond.code ({ cls := "ChainPartsModel", name := "isPrime", desc := "(I)Z" } : Jvm.MethodName) prog_14_method_75_code (1 : Nat) (Option.some Jvm.ClassFile.FieldType.boolean)) ∈ lw_all := lw_g (lw_at lw_m5 216 rfl) rfl
theorem q1248 : (Jvm.Cond.methodLink "ChainPartsModel" (315 : Nat) ({ cls := "ChainPartsModel", name := "rankFor", desc := "(II)I" } : Jvm.MethodName)) ∈ lw_all := lw_g (lw_at lw_m5 217 rfl) rfl
theorem q1249 : (Jvm.Cond.privateMethod ({ cls := "ChainPartsModel", name := "rankFor", desc := "(II)I" } : Jvm.MethodName)) ∈ lw_tbl := lw_at lw_m5 218 rfl
theorem q1250 : (Jvm.Cond.instanceMethod ({ cls := "ChainPartsModel", name := "rankFor", desc := "(II)I" } : Jvm.MethodName)) ∈ lw_all := lw_g (lw_at lw_m5 219 rfl) rfl
theorem q1251 : (Jvm.Cond.code ({ cls := "ChainPartsModel", name := "rankFor", desc := "(II)I" } : Jvm.MethodName) prog_14_method_76_code (3 : Nat) (Option.some Jvm.ClassFile.FieldType.int)) ∈ lw_all := lw_g (lw_at lw_m5 220 rfl) rfl
theorem q1252 : (Jvm.Cond.methodLink "ChainPartsModel" (303 : Nat) ({ cls := "ChainPartsModel", name := "rankAll", desc := "(I)I" } : Jvm.MethodName)) ∈ lw_all := lw_g (lw_at lw_m5 221 rfl) rfl
theorem q1253 : (Jvm.Cond.privateMethod ({ cls := "ChainPartsModel", name := "rankAll", desc := "(I)I" } : Jvm.MethodName)) ∈ lw_tbl := lw_at lw_m5 222 rfl
theorem q1254 : (Jvm.Cond.instanceMethod ({ cls := "ChainPartsModel", name := "rankAll", desc := "(I)I" } : Jvm.MethodName)) ∈ lw_all := lw_g (lw_at lw_m5 223 rfl) rfl
theorem q1255 : (Jvm.Cond.code ({ cls := "ChainPartsModel", name := "rankAll", desc := "(I)I" } : Jvm.MethodName) prog_14_method_34_code (2 : Nat) (Option.some Jvm.ClassFile.FieldType.int)) ∈ lw_all := lw_g (lw_at lw_m5 224 rfl) rfl
theorem q1256 : (Jvm.Cond.methodLink "ChainPartsModel" (124 : Nat) ({ cls := "ChainPartsModel", name := "allColumns", desc := "(I)I" } : Jvm.MethodName)) ∈ lw_all := lw_g (lw_at lw_m5 225 rfl) rfl
theorem q1257 : (Jvm.Cond.privateMethod ({ cls := "ChainPartsModel", name := "allColumns", desc := "(I)I" } : Jvm.MethodName)) ∈ lw_tbl := lw_at lw_m5 226 rfl
theorem q1258 : (Jvm.Cond.instanceMethod ({ cls := "ChainPartsModel", name := "allColumns", desc := "(I)I" } : Jvm.MethodName)) ∈ lw_all := lw_g (lw_at lw_m5 227 rfl) rfl
theorem q1259 : (Jvm.Cond.code ({ cls := "ChainPartsModel", name := "allColumns", desc := "(I)I" } : Jvm.MethodName) prog_14_method_33_code (2 : Nat) (Option.some Jvm.ClassFile.FieldType.int)) ∈ lw_all := lw_g (lw_at lw_m5 228 rfl) rfl
theorem q1260 : (Jvm.Cond.methodLink "ChainPartsModel" (127 : Nat) ({ cls := "ChainPartsModel", name := "rankOf", desc := "(III)I" } : Jvm.MethodName)) ∈ lw_all := lw_g (lw_at lw_m5 229 rfl) rfl
theorem q1261 : (Jvm.Cond.privateMethod ({ cls := "ChainPartsModel", name := "rankOf", desc := "(III)I" } : Jvm.MethodName)) ∈ lw_tbl := lw_at lw_m5 230 rfl
theorem q1262 : (Jvm.Cond.instanceMethod ({ cls := "ChainPartsModel", name := "rankOf", desc := "(III)I" } : Jvm.MethodName)) ∈ lw_all := lw_g (lw_at lw_m5 231 rfl) rfl
theorem q1263 : (Jvm.Cond.code ({ cls := "ChainPartsModel", name := "rankOf", desc := "(III)I" } : Jvm.MethodName) prog_14_method_32_code (6 : Nat) (Option.some Jvm.ClassFile.FieldType.int)) ∈ lw_all := lw_g (lw_at lw_m5 232 rfl) rfl
theorem q1264 : (Jvm.Cond.methodLink "ChainPartsModel" (99 : Nat) ({ cls := "ChainPartsModel", name := "ones", desc := "(I)I" } : Jvm.MethodName)) ∈ lw_all := lw_g (lw_at lw_m5 233 rfl) rfl
theorem q1265 : (Jvm.Cond.static ({ cls := "ChainPartsModel", name := "ones", desc := "(I)I" } : Jvm.MethodName)) ∈ lw_all := lw_g (lw_at lw_m5 234 rfl) rfl
theorem q1266 : (Jvm.Cond.code ({ cls := "ChainPartsModel", name := "ones", desc := "(I)I" } : Jvm.MethodName) prog_14_method_5_code (3 : Nat) (Option.some Jvm.ClassFile.FieldType.int)) ∈ lw_all := lw_g (lw_at lw_m5 235 rfl) rfl
theorem q1267 : (Jvm.Cond.methodLink "ChainPartsModel" (48 : Nat) ({ cls := "ChainPartsModel", name := "has", desc := "(II)Z" } : Jvm.MethodName)) ∈ lw_all := lw_g (lw_at lw_m5 236 rfl) rfl
theorem q1268 : (Jvm.Cond.static ({ cls := "ChainPartsModel", name := "has", desc := "(II)Z" } : Jvm.MethodName)) ∈ lw_all := lw_g (lw_at lw_m5 237 rfl) rfl
theorem q1269 : (Jvm.Cond.code ({ cls := "ChainPartsModel", name := "has", desc := "(II)Z" } : Jvm.MethodName) prog_14_method_4_code (2 : Nat) (Option.some Jvm.ClassFile.FieldType.boolean)) ∈ lw_all := lw_g (lw_at lw_m5 238 rfl) rfl
theorem q1270 : (Jvm.Cond.methodLink "ChainPartsModel" (121 : Nat) ({ cls := "ChainPartsModel", name := "minorsOf", desc := "(IIII)J" } : Jvm.MethodName)) ∈ lw_all := lw_g (lw_at lw_m5 239 rfl) rfl
theorem q1271 : (Jvm.Cond.privateMethod ({ cls := "ChainPartsModel", name := "minorsOf", desc := "(IIII)J" } : Jvm.MethodName)) ∈ lw_tbl := lw_at lw_m6 0 rfl
theorem q1272 : (Jvm.Cond.instanceMethod ({ cls := "ChainPartsModel", name := "minorsOf", desc := "(IIII)J" } : Jvm.MethodName)) ∈ lw_all := lw_g (lw_at lw_m6 1 rfl) rfl
theorem q1273 : (Jvm.Cond.code ({ cls := "ChainPartsModel", name := "minorsOf", desc := "(IIII)J" } : Jvm.MethodName) prog_14_method_31_code (9 : Nat) (Option.some Jvm.ClassFile.FieldType.long)) ∈ lw_all := lw_g (lw_at lw_m6 2 rfl) rfl
theorem q1274 : (Jvm.Cond.methodLink "ChainPartsModel" (113 : Nat) ({ cls := "ChainPartsModel", name := "minor", desc := "(IIII)J" } : Jvm.MethodName)) ∈ lw_all := lw_g (lw_at lw_m6 3 rfl) rfl
theorem q1275 : (Jvm.Cond.privateMethod ({ cls := "ChainPartsModel", name := "minor", desc := "(IIII)J" } : Jvm.MethodName)) ∈ lw_tbl := lw_at lw_m6 4 rfl
theorem q1276 : (Jvm.Cond.instanceMethod ({ cls := "ChainPartsModel", name := "minor", desc := "(IIII)J" } : Jvm.MethodName)) ∈ lw_all := lw_g (lw_at lw_m6 5 rfl) rfl
theorem q1277 : (Jvm.Cond.code ({ cls := "ChainPartsModel", name := "minor", desc := "(IIII)J" } : Jvm.MethodName) prog_14_method_30_code (7 : Nat) (Option.some Jvm.ClassFile.FieldType.long)) ∈ lw_all := lw_g (lw_at lw_m6 6 rfl) rfl
theorem q1278 : (Jvm.Cond.methodLink "ChainPartsModel" (102 : Nat) ({ cls := "ChainPartsModel", name := "nth", desc := "(II)I" } : Jvm.MethodName)) ∈ lw_all := lw_g (lw_at lw_m6 7 rfl) rfl
theorem q1279 : (Jvm.Cond.static ({ cls := "ChainPartsModel", name := "nth", desc := "(II)I" } : Jvm.MethodName)) ∈ lw_all := lw_g (lw_at lw_m6 8 rfl) rfl
theorem q1280 : (Jvm.Cond.code ({ cls := "ChainPartsModel", name := "nth", desc := "(II)I" } : Jvm.MethodName) prog_14_method_29_code (4 : Nat) (Option.some Jvm.ClassFile.FieldType.int)) ∈ lw_all := lw_g (lw_at lw_m6 9 rfl) rfl
theorem q1281 : (Jvm.Cond.methodLink "ChainPartsModel" (105 : Nat) ({ cls := "ChainPartsModel", name := "wide", desc := "(IIII)I" } : Jvm.MethodName)) ∈ lw_all := lw_g (lw_at lw_m6 10 rfl) rfl
theorem q1282 : (Jvm.Cond.privateMethod ({ cls := "ChainPartsModel", name := "wide", desc := "(IIII)I" } : Jvm.MethodName)) ∈ lw_tbl := lw_at lw_m6 11 rfl
theorem q1283 : (Jvm.Cond.instanceMethod ({ cls := "ChainPartsModel", name := "wide", desc := "(IIII)I" } : Jvm.MethodName)) ∈ lw_all := lw_g (lw_at lw_m6 12 rfl) rfl
theorem q1284 : (Jvm.Cond.code ({ cls := "ChainPartsModel", name := "wide", desc := "(IIII)I" } : Jvm.MethodName) prog_14_method_28_code (5 : Nat) (Option.some Jvm.ClassFile.FieldType.int)) ∈ lw_all := lw_g (lw_at lw_m6 13 rfl) rfl
theorem q1285 : (Jvm.Cond.methodLink "ChainPartsModel" (109 : Nat) ({ cls := "ChainPartsModel", name := "determinant", desc := "(I)J" } : Jvm.MethodName)) ∈ lw_all := lw_g (lw_at lw_m6 14 rfl) rfl
theorem q1286 : (Jvm.Cond.privateMethod ({ cls := "ChainPartsModel", name := "determinant", desc := "(I)J" } : Jvm.MethodName)) ∈ lw_tbl := lw_at lw_m6 15 rfl
theorem q1287 : (Jvm.Cond.instanceMethod ({ cls := "ChainPartsModel", name := "determinant", desc := "(I)J" } : Jvm.MethodName)) ∈ lw_all := lw_g (lw_at lw_m6 16 rfl) rfl
theorem q1288 : (Jvm.Cond.code ({ cls := "ChainPartsModel", name := "determinant", desc := "(I)J" } : Jvm.MethodName) prog_14_method_23_code (10 : Nat) (Option.some Jvm.ClassFile.FieldType.long)) ∈ lw_all := lw_g (lw_at lw_m6 17 rfl) rfl
theorem q1289 : (Jvm.Cond.methodLink "ChainPartsModel" (84 : Nat) ({ cls := "ChainPartsModel", name := "swaps", desc := "(II)V" } : Jvm.MethodName)) ∈ lw_all := lw_g (lw_at lw_m6 18 rfl) rfl
theorem q1290 : (Jvm.Cond.privateMethod ({ cls := "ChainPartsModel", name := "swaps", desc := "(II)V" } : Jvm.MethodName)) ∈ lw_tbl := lw_at lw_m6 19 rfl
theorem q1291 : (Jvm.Cond.instanceMethod ({ cls := "ChainPartsModel", name := "swaps", desc := "(II)V" } : Jvm.MethodName)) ∈ lw_all := lw_g (lw_at lw_m6 20 rfl) rfl
theorem q1292 : (Jvm.Cond.code ({ cls := "ChainPartsModel", name := "swaps", desc := "(II)V" } : Jvm.MethodName) prog_14_method_22_code (6 : Nat) (Option.none : Option Jvm.ClassFile.FieldType)) ∈ lw_all := lw_g (lw_at lw_m6 21 rfl) rfl
theorem q1293 : (Jvm.Cond.methodLink "ChainPartsModel" (117 : Nat) ({ cls := "ChainPartsModel", name := "gcd", desc := "(JJ)J" } : Jvm.MethodName)) ∈ lw_all := lw_g (lw_at lw_m6 22 rfl) rfl
theorem q1294 : (Jvm.Cond.static ({ cls := "ChainPartsModel", name := "gcd", desc := "(JJ)J" } : Jvm.MethodName)) ∈ lw_all := lw_g (lw_at lw_m6 23 rfl) rfl
theorem q1295 : (Jvm.Cond.code ({ cls := "ChainPartsModel", name := "gcd", desc := "(JJ)J" } : Jvm.MethodName) prog_14_method_6_code (10 : Nat) (Option.some Jvm.ClassFile.FieldType.long)) ∈ lw_all := lw_g (lw_at lw_m6 24 rfl) rfl
theorem q1296 : (Jvm.Cond.methodLink "ChainPartsModel" (306 : Nat) ({ cls := "ChainPartsModel", name := "lays", desc := "(I)V" } : Jvm.MethodName)) ∈ lw_all := lw_g (lw_at lw_m6 25 rfl) rfl
theorem q1297 : (Jvm.Cond.privateMethod ({ cls := "ChainPartsModel", name := "lays", desc := "(I)V" } : Jvm.MethodName)) ∈ lw_tbl := lw_at lw_m6 26 rfl
theorem q1298 : (Jvm.Cond.instanceMethod ({ cls := "ChainPartsModel", name := "lays", desc := "(I)V" } : Jvm.MethodName)) ∈ lw_all := lw_g (lw_at lw_m6 27 rfl) rfl
theorem q1299 : (Jvm.Cond.code ({ cls := "ChainPartsModel", name := "lays", desc := "(I)V" } : Jvm.MethodName) prog_14_method_27_code (3 : Nat) (Option.none : Option Jvm.ClassFile.FieldType)) ∈ lw_all := lw_g (lw_at lw_m6 28 rfl) rfl
theorem q1300 : (Jvm.Cond.methodLink "ChainPartsModel" (309 : Nat) ({ cls := "ChainPartsModel", name := "rankBy", desc := "(III)I" } : Jvm.MethodName)) ∈ lw_all := lw_g (lw_at lw_m6 29 rfl) rfl
theorem q1301 : (Jvm.Cond.privateMethod ({ cls := "ChainPartsModel", name := "rankBy", desc := "(III)I" } : Jvm.MethodName)) ∈ lw_tbl := lw_at lw_m6 30 rfl
theorem q1302 : (Jvm.Cond.instanceMethod ({ cls := "ChainPartsModel", name := "rankBy", desc := "(III)I" } : Jvm.MethodName)) ∈ lw_all := lw_g (lw_at lw_m6 31 rfl) rfl
theorem q1303 : (Jvm.Cond.code ({ cls := "ChainPartsModel", name := "rankBy", desc := "(III)I" } : Jvm.MethodName) prog_14_method_25_code (7 : Nat) (Option.some Jvm.ClassFile.FieldType.int)) ∈ lw_all := lw_g (lw_at lw_m6 32 rfl) rfl
theorem q1304 : (Jvm.Cond.methodLink "ChainPartsModel" (88 : Nat) ({ cls := "ChainPartsModel", name := "clears", desc := "(IIII)V" } : Jvm.MethodName)) ∈ lw_all := lw_g (lw_at lw_m6 33 rfl) rfl
theorem q1305 : (Jvm.Cond.privateMethod ({ cls := "ChainPartsModel", name := "clears", desc := "(IIII)V" } : Jvm.MethodName)) ∈ lw_tbl := lw_at lw_m6 34 rfl
theorem q1306 : (Jvm.Cond.instanceMethod ({ cls := "ChainPartsModel", name := "clears", desc := "(IIII)V" } : Jvm.MethodName)) ∈ lw_all := lw_g (lw_at lw_m6 35 rfl) rfl
theorem q1307 : (Jvm.Cond.code ({ cls := "ChainPartsModel", name := "clears", desc := "(IIII)V" } : Jvm.MethodName) prog_14_method_26_code (11 : Nat) (Option.none : Option Jvm.ClassFile.FieldType)) ∈ lw_all := lw_g (lw_at lw_m6 36 rfl) rfl
theorem q1308 : (Jvm.Cond.methodLink "ChainPartsModel" (92 : Nat) ({ cls := "ChainPartsModel", name := "inverse", desc := "(JI)J" } : Jvm.MethodName)) ∈ lw_all := lw_g (lw_at lw_m6 37 rfl) rfl
theorem q1309 : (Jvm.Cond.static ({ cls := "ChainPartsModel", name := "inverse", desc := "(JI)J" } : Jvm.MethodName)) ∈ lw_all := lw_g (lw_at lw_m6 38 rfl) rfl
theorem q1310 : (Jvm.Cond.code ({ cls := "ChainPartsModel", name := "inverse", desc := "(JI)J" } : Jvm.MethodName) prog_14_method_24_code (5 : Nat) (Option.some Jvm.ClassFile.FieldType.long)) ∈ lw_all := lw_g (lw_at lw_m6 39 rfl) rfl
theorem q1312 : (Jvm.Cond.instanceMethod ({ cls := "ChainPartsModel", name := "holes", desc := "(II)I" } : Jvm.MethodName)) ∈ lw_all := lw_g (lw_at lw_m6 41 rfl) rfl
theorem q1313 : (Jvm.Cond.selects "ChainPartsModel" ({ cls := "ChainPartsModel", name := "holes", desc := "(II)I" } : Jvm.MethodName) ({ cls := "ChainPartsModel", name := "holes", desc := "(II)I" } : Jvm.MethodName)) ∈ lw_all := lw_g (lw_at lw_m6 42 rfl) rfl
theorem q1314 : (Jvm.Cond.code ({ cls := "ChainPartsModel", name := "holes", desc := "(II)I" } : Jvm.MethodName) prog_14_method_78_code (5 : Nat) (Option.some Jvm.ClassFile.FieldType.int)) ∈ lw_all := lw_g (lw_at lw_m6 43 rfl) rfl
theorem q1316 : (Jvm.Cond.instanceMethod ({ cls := "ChainPartsModel", name := "twist", desc := "(II)I" } : Jvm.MethodName)) ∈ lw_all := lw_g (lw_at lw_m6 45 rfl) rfl
theorem q1317 : (Jvm.Cond.selects "ChainPartsModel" ({ cls := "ChainPartsModel", name := "twist", desc := "(II)I" } : Jvm.MethodName) ({ cls := "ChainPartsModel", name := "twist", desc := "(II)I" } : Jvm.MethodName)) ∈ lw_all := lw_g (lw_at lw_m6 46 rfl) rfl
theorem q1318 : (Jvm.Cond.code ({ cls := "ChainPartsModel", name := "twist", desc := "(II)I" } : Jvm.MethodName) prog_14_method_79_code (4 : Nat) (Option.some Jvm.ClassFile.FieldType.int)) ∈ lw_all := lw_g (lw_at lw_m6 47 rfl) rfl
theorem q1320 : (Jvm.Cond.instanceMethod ({ cls := "ChainPartsModel", name := "chain", desc := "(II)I" } : Jvm.MethodName)) ∈ lw_all := lw_g (lw_at lw_m6 49 rfl) rfl
theorem q1321 : (Jvm.Cond.selects "ChainPartsModel" ({ cls := "ChainPartsModel", name := "chain", desc := "(II)I" } : Jvm.MethodName) ({ cls := "ChainPartsModel", name := "chain", desc := "(II)I" } : Jvm.MethodName)) ∈ lw_all := lw_g (lw_at lw_m6 50 rfl) rfl
theorem q1322 : (Jvm.Cond.code ({ cls := "ChainPartsModel", name := "chain", desc := "(II)I" } : Jvm.MethodName) prog_14_method_80_code (3 : Nat) (Option.some Jvm.ClassFile.FieldType.int)) ∈ lw_all := lw_g (lw_at lw_m6 51 rfl) rfl
theorem q1324 : (Jvm.Cond.instanceMethod ({ cls := "ChainPartsModel", name := "ends", desc := "(II)I" } : Jvm.MethodName)) ∈ lw_all := lw_g (lw_at lw_m6 53 rfl) rfl
theorem q1325 : (Jvm.Cond.selects "ChainPartsModel" ({ cls := "ChainPartsModel", name := "ends", desc := "(II)I" } : Jvm.MethodName) ({ cls := "ChainPartsModel", name := "ends", desc := "(II)I" } : Jvm.MethodName)) ∈ lw_all := lw_g (lw_at lw_m6 54 rfl) rfl
theorem q1326 : (Jvm.Cond.code ({ cls := "ChainPartsModel", name := "ends", desc := "(II)I" } : Jvm.MethodName) prog_14_method_82_code (3 : Nat) (Option.some Jvm.ClassFile.FieldType.int)) ∈ lw_all := lw_g (lw_at lw_m6 55 rfl) rfl
theorem q1327 : (Jvm.Cond.methodLink "ChainPartsModel" (318 : Nat) ({ cls := "ChainPartsModel", name := "endsAt", desc := "(II)I" } : Jvm.MethodName)) ∈ lw_all := lw_g (lw_at lw_m6 56 rfl) rfl
theorem q1328 : (Jvm.Cond.privateMethod ({ cls := "ChainPartsModel", name := "endsAt", desc := "(II)I" } : Jvm.MethodName)) ∈ lw_tbl := lw_at lw_m6 57 rfl
theorem q1329 : (Jvm.Cond.instanceMethod ({ cls := "ChainPartsModel", name := "endsAt", desc := "(II)I" } : Jvm.MethodName)) ∈ lw_all := lw_g (lw_at lw_m6 58 rfl) rfl
theorem q1330 : (Jvm.Cond.code ({ cls := "ChainPartsModel", name := "endsAt", desc := "(II)I" } : Jvm.MethodName) prog_14_method_81_code (5 : Nat) (Option.some Jvm.ClassFile.FieldType.int)) ∈ lw_all := lw_g (lw_at lw_m6 59 rfl) rfl
theorem q1332 : (Jvm.Cond.instanceMethod ({ cls := "ChainPartsModel", name := "whole", desc := "(II)I" } : Jvm.MethodName)) ∈ lw_all := lw_g (lw_at lw_m6 61 rfl) rfl
theorem q1333 : (Jvm.Cond.selects "ChainPartsModel" ({ cls := "ChainPartsModel", name := "whole", desc := "(II)I" } : Jvm.MethodName) ({ cls := "ChainPartsModel", name := "whole", desc := "(II)I" } : Jvm.MethodName)) ∈ lw_all := lw_g (lw_at lw_m6 62 rfl) rfl
theorem q1334 : (Jvm.Cond.code ({ cls := "ChainPartsModel", name := "whole", desc := "(II)I" } : Jvm.MethodName) prog_14_method_85_code (3 : Nat) (Option.some Jvm.ClassFile.FieldType.int)) ∈ lw_all := lw_g (lw_at lw_m6 63 rfl) rfl
theorem q1335 : (Jvm.Cond.methodLink "ChainPartsModel" (321 : Nat) ({ cls := "ChainPartsModel", name := "isCycle", desc := "(I)Z" } : Jvm.MethodName)) ∈ lw_all := lw_g (lw_at lw_m6 64 rfl) rfl
theorem q1336 : (Jvm.Cond.privateMethod ({ cls := "ChainPartsModel", name := "isCycle", desc := "(I)Z" } : Jvm.MethodName)) ∈ lw_tbl := lw_at lw_m6 65 rfl
theorem q1337 : (Jvm.Cond.instanceMethod ({ cls := "ChainPartsModel", name := "isCycle", desc := "(I)Z" } : Jvm.MethodName)) ∈ lw_all := lw_g (lw_at lw_m6 66 rfl) rfl
theorem q1338 : (Jvm.Cond.code ({ cls := "ChainPartsModel", name := "isCycle", desc := "(I)Z" } : Jvm.MethodName) prog_14_method_83_code (4 : Nat) (Option.some Jvm.ClassFile.FieldType.boolean)) ∈ lw_all := lw_g (lw_at lw_m6 67 rfl) rfl
theorem q1339 : (Jvm.Cond.methodLink "ChainPartsModel" (324 : Nat) ({ cls := "ChainPartsModel", name := "order", desc := "(I)I" } : Jvm.MethodName)) ∈ lw_all := lw_g (lw_at lw_m6 68 rfl) rfl
theorem q1340 : (Jvm.Cond.privateMethod ({ cls := "ChainPartsModel", name := "order", desc := "(I)I" } : Jvm.MethodName)) ∈ lw_tbl := lw_at lw_m6 69 rfl
theorem q1341 : (Jvm.Cond.instanceMethod ({ cls := "ChainPartsModel", name := "order", desc := "(I)I" } : Jvm.MethodName)) ∈ lw_all := lw_g (lw_at lw_m6 70 rfl) rfl
theorem q1342 : (Jvm.Cond.code ({ cls := "ChainPartsModel", name := "order", desc := "(I)I" } : Jvm.MethodName) prog_14_method_84_code (4 : Nat) (Option.some Jvm.ClassFile.FieldType.int)) ∈ lw_all := lw_g (lw_at lw_m6 71 rfl) rfl
theorem q1344 : (Jvm.Cond.instanceMethod ({ cls := "ChainPartsModel", name := "part", desc := "(IIII)J" } : Jvm.MethodName)) ∈ lw_all := lw_g (lw_at lw_m6 73 rfl) rfl
theorem q1345 : (Jvm.Cond.selects "ChainPartsModel" ({ cls := "ChainPartsModel", name := "part", desc := "(IIII)J" } : Jvm.MethodName) ({ cls := "ChainPartsModel", name := "part", desc := "(IIII)J" } : Jvm.MethodName)) ∈ lw_all := lw_g (lw_at lw_m6 74 rfl) rfl
theorem q1346 : (Jvm.Cond.code ({ cls := "ChainPartsModel", name := "part", desc := "(IIII)J" } : Jvm.MethodName) prog_14_method_95_code (5 : Nat) (Option.some Jvm.ClassFile.FieldType.long)) ∈ lw_all := lw_g (lw_at lw_m6 75 rfl) rfl
theorem q1347 : (Jvm.Cond.constantLong "ChainPartsModel" (358 : Nat) (-1000001 : Int64)) ∈ lw_all := lw_g (lw_at lw_m6 76 rfl) rfl
theorem q1348 : (Jvm.Cond.methodLink "ChainPartsModel" (360 : Nat) ({ cls := "ChainPartsModel", name := "laysPart", desc := "(II)V" } : Jvm.MethodName)) ∈ lw_all := lw_g (lw_at lw_m6 77 rfl) rfl
theorem q1349 : (Jvm.Cond.privateMethod ({ cls := "ChainPartsModel", name := "laysPart", desc := "(II)V" } : Jvm.MethodName)) ∈ lw_tbl := lw_at lw_m6 78 rfl
theorem q1350 : (Jvm.Cond.instanceMethod ({ cls := "ChainPartsModel", name := "laysPart", desc := "(II)V" } : Jvm.MethodName)) ∈ lw_all := lw_g (lw_at lw_m6 79 rfl) rfl
theorem q1351 : (Jvm.Cond.code ({ cls := "ChainPartsModel", name := "laysPart", desc := "(II)V" } : Jvm.MethodName) prog_14_method_94_code (6 : Nat) (Option.none : Option Jvm.ClassFile.FieldType)) ∈ lw_all := lw_g (lw_at lw_m6 80 rfl) rfl
theorem q1352 : (Jvm.Cond.methodLink "ChainPartsModel" (355 : Nat) ({ cls := "ChainPartsModel", name := "spans", desc := "(II)V" } : Jvm.MethodName)) ∈ lw_all := lw_g (lw_at lw_m6 81 rfl) rfl
theorem q1353 : (Jvm.Cond.privateMethod ({ cls := "ChainPartsModel", name := "spans", desc := "(II)V" } : Jvm.MethodName)) ∈ lw_tbl := lw_at lw_m6 82 rfl
theorem q1354 : (Jvm.Cond.instanceMethod ({ cls := "ChainPartsModel", name := "spans", desc := "(II)V" } : Jvm.MethodName)) ∈ lw_all := lw_g (lw_at lw_m6 83 rfl) rfl
theorem q1355 : (Jvm.Cond.code ({ cls := "ChainPartsModel", name := "spans", desc := "(II)V" } : Jvm.MethodName) prog_14_method_93_code (10 : Nat) (Option.none : Option Jvm.ClassFile.FieldType)) ∈ lw_all := lw_g (lw_at lw_m6 84 rfl) rfl
theorem q1356 : (Jvm.Cond.methodLink "ChainPartsModel" (344 : Nat) ({ cls := "ChainPartsModel", name := "independent", desc := "(I)I" } : Jvm.MethodName)) ∈ lw_all := lw_g (lw_at lw_m6 85 rfl) rfl
theorem q1357 : (Jvm.Cond.privateMethod ({ cls := "ChainPartsModel", name := "independent", desc := "(I)I" } : Jvm.MethodName)) ∈ lw_tbl := lw_at lw_m6 86 rfl
theorem q1358 : (Jvm.Cond.instanceMethod ({ cls := "ChainPartsModel", name := "independent", desc := "(I)I" } : Jvm.MethodName)) ∈ lw_all := lw_g (lw_at lw_m6 87 rfl) rfl
theorem q1359 : (Jvm.Cond.code ({ cls := "ChainPartsModel", name := "independent", desc := "(I)I" } : Jvm.MethodName) prog_14_method_86_code (7 : Nat) (Option.some Jvm.ClassFile.FieldType.int)) ∈ lw_all := lw_g (lw_at lw_m6 88 rfl) rfl
theorem q1360 : (Jvm.Cond.methodLink "ChainPartsModel" (327 : Nat) ({ cls := "ChainPartsModel", name := "rankOfRows", desc := "(I)I" } : Jvm.MethodName)) ∈ lw_all := lw_g (lw_at lw_m6 89 rfl) rfl
theorem q1361 : (Jvm.Cond.privateMethod ({ cls := "ChainPartsModel", name := "rankOfRows", desc := "(I)I" } : Jvm.MethodName)) ∈ lw_tbl := lw_at lw_m6 90 rfl
theorem q1362 : (Jvm.Cond.instanceMethod ({ cls := "ChainPartsModel", name := "rankOfRows", desc := "(I)I" } : Jvm.MethodName)) ∈ lw_all := lw_g (lw_at lw_m6 91 rfl) rfl
theorem q1363 : (Jvm.Cond.code ({ cls := "ChainPartsModel", name := "rankOfRows", desc := "(I)I" } : Jvm.MethodName) prog_14_method_87_code (5 : Nat) (Option.some Jvm.ClassFile.FieldType.int)) ∈ lw_all := lw_g (lw_at lw_m6 92 rfl) rfl
theorem q1364 : (Jvm.Cond.methodLink "ChainPartsModel" (347 : Nat) ({ cls := "ChainPartsModel", name := "solves", desc := "(III)V" } : Jvm.MethodName)) ∈ lw_all := lw_g (lw_at lw_m6 93 rfl) rfl
theorem q1365 : (Jvm.Cond.privateMethod ({ cls := "ChainPartsModel", name := "solves", desc := "(III)V" } : Jvm.MethodName)) ∈ lw_tbl := lw_at lw_m6 94 rfl
theorem q1366 : (Jvm.Cond.instanceMethod ({ cls := "ChainPartsModel", name := "solves", desc := "(III)V" } : Jvm.MethodName)) ∈ lw_all := lw_g (lw_at lw_m6 95 rfl) rfl
theorem q1367 : (Jvm.Cond.code ({ cls := "ChainPartsModel", name := "solves", desc := "(III)V" } : Jvm.MethodName) prog_14_method_91_code (7 : Nat) (Option.none : Option Jvm.ClassFile.FieldType)) ∈ lw_all := lw_g (lw_at lw_m6 96 rfl) rfl
theorem q1368 : (Jvm.Cond.methodLink "ChainPartsModel" (334 : Nat) ({ cls := "ChainPartsModel", name := "laysProducts", desc := "(II)V" } : Jvm.MethodName)) ∈ lw_all := lw_g (lw_at lw_m6 97 rfl) rfl
theorem q1369 : (Jvm.Cond.privateMethod ({ cls := "ChainPartsModel", name := "laysProducts", desc := "(II)V" } : Jvm.MethodName)) ∈ lw_tbl := lw_at lw_m6 98 rfl
theorem q1370 : (Jvm.Cond.instanceMethod ({ cls := "ChainPartsModel", name := "laysProducts", desc := "(II)V" } : Jvm.MethodName)) ∈ lw_all := lw_g (lw_at lw_m6 99 rfl) rfl
theorem q1371 : (Jvm.Cond.code ({ cls := "ChainPartsModel", name := "laysProducts", desc := "(II)V" } : Jvm.MethodName) prog_14_method_90_code (5 : Nat) (Option.none : Option Jvm.ClassFile.FieldType)) ∈ lw_all := lw_g (lw_at lw_m6 100 rfl) rfl
theorem q1372 : (Jvm.Cond.methodLink "ChainPartsModel" (330 : Nat) ({ cls := "ChainPartsModel", name := "product", desc := "(III)J" } : Jvm.MethodName)) ∈ lw_all := lw_g (lw_at lw_m6 101 rfl) rfl
theorem q1373 : (Jvm.Cond.privateMethod ({ cls := "ChainPartsModel", name := "product", desc := "(III)J" } : Jvm.MethodName)) ∈ lw_tbl := lw_at lw_m6 102 rfl
theorem q1374 : (Jvm.Cond.instanceMethod ({ cls := "ChainPartsModel", name := "product", desc := "(III)J" } : Jvm.MethodName)) ∈ lw_all := lw_g (lw_at lw_m6 103 rfl) rfl
theorem q1375 : (Jvm.Cond.code ({ cls := "ChainPartsModel", name := "product", desc := "(III)J" } : Jvm.MethodName) prog_14_method_88_code (7 : Nat) (Option.some Jvm.ClassFile.FieldType.long)) ∈ lw_all := lw_g (lw_at lw_m6 104 rfl) rfl
theorem q1376 : (Jvm.Cond.methodLink "ChainPartsModel" (341 : Nat) ({ cls := "ChainPartsModel", name := "against", desc := "(III)J" } : Jvm.MethodName)) ∈ lw_all := lw_g (lw_at lw_m6 105 rfl) rfl
theorem q1377 : (Jvm.Cond.privateMethod ({ cls := "ChainPartsModel", name := "against", desc := "(III)J" } : Jvm.MethodName)) ∈ lw_tbl := lw_at lw_m6 106 rfl
theorem q1378 : (Jvm.Cond.instanceMethod ({ cls := "ChainPartsModel", name := "against", desc := "(III)J" } : Jvm.MethodName)) ∈ lw_all := lw_g (lw_at lw_m6 107 rfl) rfl
theorem q1379 : (Jvm.Cond.code ({ cls := "ChainPartsModel", name := "against", desc := "(III)J" } : Jvm.MethodName) prog_14_method_89_code (7 : Nat) (Option.some Jvm.ClassFile.FieldType.long)) ∈ lw_all := lw_g (lw_at lw_m6 108 rfl) rfl
theorem q1380 : (Jvm.Cond.methodLink "ChainPartsModel" (351 : Nat) ({ cls := "ChainPartsModel", name := "tells", desc := "(IJJ)V" } : Jvm.MethodName)) ∈ lw_all := lw_g (lw_at lw_m6 109 rfl) rfl
theorem q1381 : (Jvm.Cond.privateMethod ({ cls := "ChainPartsModel", name := "tells", desc := "(IJJ)V" } : Jvm.MethodName)) ∈ lw_tbl := lw_at lw_m6 110 rfl
theorem q1382 : (Jvm.Cond.instanceMethod ({ cls := "ChainPartsModel", name := "tells", desc := "(IJJ)V" } : Jvm.MethodName)) ∈ lw_all := lw_g (lw_at lw_m6 111 rfl) rfl
theorem q1383 : (Jvm.Cond.code ({ cls := "ChainPartsModel", name := "tells", desc := "(IJJ)V" } : Jvm.MethodName) prog_14_method_92_code (8 : Nat) (Option.none : Option Jvm.ClassFile.FieldType)) ∈ lw_all := lw_g (lw_at lw_m6 112 rfl) rfl
theorem q1385 : (Jvm.Cond.instanceMethod ({ cls := "ChainPartsModel", name := "length", desc := "(III)J" } : Jvm.MethodName)) ∈ lw_all := lw_g (lw_at lw_m6 114 rfl) rfl
theorem q1386 : (Jvm.Cond.selects "ChainPartsModel" ({ cls := "ChainPartsModel", name := "length", desc := "(III)J" } : Jvm.MethodName) ({ cls := "ChainPartsModel", name := "length", desc := "(III)J" } : Jvm.MethodName)) ∈ lw_all := lw_g (lw_at lw_m6 115 rfl) rfl
theorem q1387 : (Jvm.Cond.code ({ cls := "ChainPartsModel", name := "length", desc := "(III)J" } : Jvm.MethodName) prog_14_method_97_code (4 : Nat) (Option.some Jvm.ClassFile.FieldType.long)) ∈ lw_all := lw_g (lw_at lw_m6 116 rfl) rfl
theorem q1388 : (Jvm.Cond.constantLong "ChainPartsModel" (369 : Nat) (-1000002 : Int64)) ∈ lw_all := lw_g (lw_at lw_m6 117 rfl) rfl
theorem q1389 : (Jvm.Cond.methodLink "ChainPartsModel" (371 : Nat) ({ cls := "ChainPartsModel", name := "measures", desc := "(II)V" } : Jvm.MethodName)) ∈ lw_all := lw_g (lw_at lw_m6 118 rfl) rfl
theorem q1390 : (Jvm.Cond.privateMethod ({ cls := "ChainPartsModel", name := "measures", desc := "(II)V" } : Jvm.MethodName)) ∈ lw_tbl := lw_at lw_m6 119 rfl
theorem q1391 : (Jvm.Cond.instanceMethod ({ cls := "ChainPartsModel", name := "measures", desc := "(II)V" } : Jvm.MethodName)) ∈ lw_all := lw_g (lw_at lw_m6 120 rfl) rfl
theorem q1392 : (Jvm.Cond.code ({ cls := "ChainPartsModel", name := "measures", desc := "(II)V" } : Jvm.MethodName) prog_14_method_96_code (11 : Nat) (Option.none : Option Jvm.ClassFile.FieldType)) ∈ lw_all := lw_g (lw_at lw_m6 121 rfl) rfl
theorem q1394 : (Jvm.Cond.instanceMethod ({ cls := "ChainPartsModel", name := "share", desc := "(II)I" } : Jvm.MethodName)) ∈ lw_all := lw_g (lw_at lw_m6 123 rfl) rfl
theorem q1395 : (Jvm.Cond.selects "ChainPartsModel" ({ cls := "ChainPartsModel", name := "share", desc := "(II)I" } : Jvm.MethodName) ({ cls := "ChainPartsModel", name := "share", desc := "(II)I" } : Jvm.MethodName)) ∈ lw_all := lw_g (lw_at lw_m6 124 rfl) rfl
theorem q1396 : (Jvm.Cond.code ({ cls := "ChainPartsModel", name := "share", desc := "(II)I" } : Jvm.MethodName) prog_14_method_98_code (15 : Nat) (Option.some Jvm.ClassFile.FieldType.int)) ∈ lw_all := lw_g (lw_at lw_m6 125 rfl) rfl
theorem q1397 : (Jvm.Cond.constantFloat "ChainPartsModel" (374 : Nat) (1148846080 : UInt32)) ∈ lw_all := lw_g (lw_at lw_m6 126 rfl) rfl
theorem q1399 : (Jvm.Cond.instanceMethod ({ cls := "ChainPartsModel", name := "trees", desc := "(II)J" } : Jvm.MethodName)) ∈ lw_all := lw_g (lw_at lw_m6 128 rfl) rfl
theorem q1400 : (Jvm.Cond.selects "ChainPartsModel" ({ cls := "ChainPartsModel", name := "trees", desc := "(II)J" } : Jvm.MethodName) ({ cls := "ChainPartsModel", name := "trees", desc := "(II)J" } : Jvm.MethodName)) ∈ lw_all := lw_g (lw_at lw_m6 129 rfl) rfl
theorem q1401 : (Jvm.Cond.code ({ cls := "ChainPartsModel", name := "trees", desc := "(II)J" } : Jvm.MethodName) prog_14_method_100_code (7 : Nat) (Option.some Jvm.ClassFile.FieldType.long)) ∈ lw_all := lw_g (lw_at lw_m6 130 rfl) rfl
theorem q1402 : (Jvm.Cond.methodLink "ChainPartsModel" (375 : Nat) ({ cls := "ChainPartsModel", name := "counts", desc := "(II)J" } : Jvm.MethodName)) ∈ lw_all := lw_g (lw_at lw_m6 131 rfl) rfl
theorem q1403 : (Jvm.Cond.privateMethod ({ cls := "ChainPartsModel", name := "counts", desc := "(II)J" } : Jvm.MethodName)) ∈ lw_tbl := lw_at lw_m6 132 rfl
theorem q1404 : (Jvm.Cond.instanceMethod ({ cls := "ChainPartsModel", name := "counts", desc := "(II)J" } : Jvm.MethodName)) ∈ lw_all := lw_g (lw_at lw_m6 133 rfl) rfl
theorem q1405 : (Jvm.Cond.code ({ cls := "ChainPartsModel", name := "counts", desc := "(II)J" } : Jvm.MethodName) prog_14_method_99_code (7 : Nat) (Option.some Jvm.ClassFile.FieldType.long)) ∈ lw_all := lw_g (lw_at lw_m6 134 rfl) rfl
theorem q1407 : (Jvm.Cond.instanceMethod ({ cls := "ChainPartsModel", name := "minors", desc := "(I)J" } : Jvm.MethodName)) ∈ lw_all := lw_g (lw_at lw_m6 136 rfl) rfl
theorem q1408 : (Jvm.Cond.selects "ChainPartsModel" ({ cls := "ChainPartsModel", name := "minors", desc := "(I)J" } : Jvm.MethodName) ({ cls := "ChainPartsModel", name := "minors", desc := "(I)J" } : Jvm.MethodName)) ∈ lw_all := lw_g (lw_at lw_m6 137 rfl) rfl
theorem q1409 : (Jvm.Cond.code ({ cls := "ChainPartsModel", name := "minors", desc := "(I)J" } : Jvm.MethodName) prog_14_method_101_code (7 : Nat) (Option.some Jvm.ClassFile.FieldType.long)) ∈ lw_all := lw_g (lw_at lw_m6 138 rfl) rfl
theorem q1411 : (Jvm.Cond.instanceMethod ({ cls := "ChainPartsModel", name := "image", desc := "(I)I" } : Jvm.MethodName)) ∈ lw_all := lw_g (lw_at lw_m6 140 rfl) rfl
theorem q1412 : (Jvm.Cond.selects "ChainPartsModel" ({ cls := "ChainPartsModel", name := "image", desc := "(I)I" } : Jvm.MethodName) ({ cls := "ChainPartsModel", name := "image", desc := "(I)I" } : Jvm.MethodName)) ∈ lw_all := lw_g (lw_at lw_m6 141 rfl) rfl
theorem q1413 : (Jvm.Cond.code ({ cls := "ChainPartsModel", name := "image", desc := "(I)I" } : Jvm.MethodName) prog_14_method_102_code (2 : Nat) (Option.some Jvm.ClassFile.FieldType.int)) ∈ lw_all := lw_g (lw_at lw_m6 142 rfl) rfl
theorem q1415 : (Jvm.Cond.instanceMethod ({ cls := "ChainPartsModel", name := "restore", desc := "(I)I" } : Jvm.MethodName)) ∈ lw_all := lw_g (lw_at lw_m6 144 rfl) rfl
theorem q1416 : (Jvm.Cond.selects "ChainPartsModel" ({ cls := "ChainPartsModel", name := "restore", desc := "(I)I" } : Jvm.MethodName) ({ cls := "ChainPartsModel", name := "restore", desc := "(I)I" } : Jvm.MethodName)) ∈ lw_all := lw_g (lw_at lw_m6 145 rfl) rfl
theorem q1417 : (Jvm.Cond.code ({ cls := "ChainPartsModel", name := "restore", desc := "(I)I" } : Jvm.MethodName) prog_14_method_103_code (2 : Nat) (Option.some Jvm.ClassFile.FieldType.int)) ∈ lw_all := lw_g (lw_at lw_m6 146 rfl) rfl
theorem q1419 : (Jvm.Cond.instanceMethod ({ cls := "ChainPartsModel", name := "count", desc := "(I)I" } : Jvm.MethodName)) ∈ lw_all := lw_g (lw_at lw_m6 148 rfl) rfl
theorem q1420 : (Jvm.Cond.selects "ChainPartsModel" ({ cls := "ChainPartsModel", name := "count", desc := "(I)I" } : Jvm.MethodName) ({ cls := "ChainPartsModel", name := "count", desc := "(I)I" } : Jvm.MethodName)) ∈ lw_all := lw_g (lw_at lw_m6 149 rfl) rfl
theorem q1421 : (Jvm.Cond.code ({ cls := "ChainPartsModel", name := "count", desc := "(I)I" } : Jvm.MethodName) prog_14_method_104_code (2 : Nat) (Option.some Jvm.ClassFile.FieldType.int)) ∈ lw_all := lw_g (lw_at lw_m6 150 rfl) rfl
theorem in_X1 : ∀ w ∈ wsX10, w ∈ lw_all := lw_in wsX10 [957, 959, 961, 963, 965, 967, 969, 971, 973, 975, 977, 979, 981, 983, 985, 987, 989, 991, 993, 995, 997, 999, 1001, 1003] (by decide +kernel) (by decide +kernel)
