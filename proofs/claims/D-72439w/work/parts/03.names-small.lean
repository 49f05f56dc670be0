/-! java/lang/Object -/
set_option maxRecDepth 100000
def RJ7 : String := "java/lang/Object"
abbrev cJ7_init : ByteArray := object_method_1_code
def yJ7_init : MethodName := ⟨RJ7, "<init>", "()V"⟩
theorem dJ7_init_0 : decode cJ7_init 0 = .ok (.return_, 1) := by decide +kernel
theorem q99 : (Jvm.Cond.instanceMethod ({ cls := "java/lang/Object", name := "<init>", desc := "()V" } : Jvm.MethodName)) ∈ lw_all := lw_g (lw_at lw_m1 28 rfl) rfl
theorem q100 : (Jvm.Cond.code ({ cls := "java/lang/Object", name := "<init>", desc := "()V" } : Jvm.MethodName) object_method_1_code (1 : Nat) (Option.none : Option Jvm.ClassFile.FieldType)) ∈ lw_all := lw_g (lw_at lw_m1 29 rfl) rfl
theorem q493 : (Jvm.Cond.native ({ cls := "java/lang/Object", name := "clone", desc := "()Ljava/lang/Object;" } : Jvm.MethodName)) ∈ lw_all := lw_g (lw_at lw_m2 182 rfl) rfl
theorem q494 : (Jvm.Cond.instanceMethod ({ cls := "java/lang/Object", name := "clone", desc := "()Ljava/lang/Object;" } : Jvm.MethodName)) ∈ lw_all := lw_g (lw_at lw_m2 183 rfl) rfl
theorem q1423 : (Jvm.Cond.initialized "java/lang/Object") ∈ lw_all := lw_g (lw_at lw_m6 152 rfl) rfl
/-! java/lang/Math -/
set_option maxRecDepth 100000
def RJ2 : String := "java/lang/Math"
abbrev cJ2_max : ByteArray := prog_19_method_65_code
def yJ2_max : MethodName := ⟨RJ2, "max", "(II)I"⟩
def dkwJ2_max_0 : List UInt8 := [26, 27, 161, 0, 7, 26, 167, 0, 4, 27, 172]
abbrev dktJ2_max_0 : List UInt8 := dkwJ2_max_0 ++ []
theorem dksJ2_max_0 : cJ2_max.data.toList.drop 0 = dktJ2_max_0 := by decide +kernel
theorem dJ2_max_0 : decode cJ2_max 0 = .ok (.iload_n 0, 1) := dk_26 (dk_at dksJ2_max_0 0 rfl rfl)
theorem dJ2_max_1 : decode cJ2_max 1 = .ok (.iload_n 1, 1) := dk_27 (dk_at dksJ2_max_0 1 rfl rfl)
theorem dJ2_max_2 : decode cJ2_max 2 = .ok (.if_icmp .lt 7, 3) := dk_161 0 7 (dk_at dksJ2_max_0 2 rfl rfl)
theorem dJ2_max_5 : decode cJ2_max 5 = .ok (.iload_n 0, 1) := dk_26 (dk_at dksJ2_max_0 5 rfl rfl)
theorem dJ2_max_6 : decode cJ2_max 6 = .ok (.goto 4, 3) := dk_167 0 4 (dk_at dksJ2_max_0 6 rfl rfl)
theorem dJ2_max_9 : decode cJ2_max 9 = .ok (.iload_n 1, 1) := dk_27 (dk_at dksJ2_max_0 9 rfl rfl)
theorem dJ2_max_10 : decode cJ2_max 10 = .ok (.ireturn, 1) := dk_172 (dk_at dksJ2_max_0 10 rfl rfl)
abbrev cJ2_abs : ByteArray := prog_19_method_61_code
def yJ2_abs : MethodName := ⟨RJ2, "abs", "(J)J"⟩
def dkwJ2_abs_0 : List UInt8 := [30, 9, 148, 156, 0, 8, 30, 117, 167, 0, 4, 30, 173]
abbrev dktJ2_abs_0 : List UInt8 := dkwJ2_abs_0 ++ []
theorem dksJ2_abs_0 : cJ2_abs.data.toList.drop 0 = dktJ2_abs_0 := by decide +kernel
theorem dJ2_abs_0 : decode cJ2_abs 0 = .ok (.lload_n 0, 1) := dk_30 (dk_at dksJ2_abs_0 0 rfl rfl)
theorem dJ2_abs_1 : decode cJ2_abs 1 = .ok (.lconst 0, 1) := dk_9 (dk_at dksJ2_abs_0 1 rfl rfl)
theorem dJ2_abs_2 : decode cJ2_abs 2 = .ok (.lcmp, 1) := dk_148 (dk_at dksJ2_abs_0 2 rfl rfl)
theorem dJ2_abs_3 : decode cJ2_abs 3 = .ok (.ifCond .ge 8, 3) := dk_156 0 8 (dk_at dksJ2_abs_0 3 rfl rfl)
theorem dJ2_abs_6 : decode cJ2_abs 6 = .ok (.lload_n 0, 1) := dk_30 (dk_at dksJ2_abs_0 6 rfl rfl)
theorem dJ2_abs_7 : decode cJ2_abs 7 = .ok (.lneg, 1) := dk_117 (dk_at dksJ2_abs_0 7 rfl rfl)
theorem dJ2_abs_8 : decode cJ2_abs 8 = .ok (.goto 4, 3) := dk_167 0 4 (dk_at dksJ2_abs_0 8 rfl rfl)
theorem dJ2_abs_11 : decode cJ2_abs 11 = .ok (.lload_n 0, 1) := dk_30 (dk_at dksJ2_abs_0 11 rfl rfl)
theorem dJ2_abs_12 : decode cJ2_abs 12 = .ok (.lreturn, 1) := dk_173 (dk_at dksJ2_abs_0 12 rfl rfl)
theorem q85 : (Jvm.Cond.initialized "java/lang/Math") ∈ lw_all := lw_g (lw_at lw_m1 14 rfl) rfl
theorem q424 : (Jvm.Cond.static ({ cls := "java/lang/Math", name := "max", desc := "(II)I" } : Jvm.MethodName)) ∈ lw_all := lw_g (lw_at lw_m2 113 rfl) rfl
theorem q425 : (Jvm.Cond.code ({ cls := "java/lang/Math", name := "max", desc := "(II)I" } : Jvm.MethodName) prog_19_method_65_code (2 : Nat) (Option.some Jvm.ClassFile.FieldType.int)) ∈ lw_all := lw_g (lw_at lw_m2 114 rfl) rfl
theorem q705 : (Jvm.Cond.static ({ cls := "java/lang/Math", name := "abs", desc := "(J)J" } : Jvm.MethodName)) ∈ lw_all := lw_g (lw_at lw_m3 154 rfl) rfl
theorem q706 : (Jvm.Cond.code ({ cls := "java/lang/Math", name := "abs", desc := "(J)J" } : Jvm.MethodName) prog_19_method_61_code (2 : Nat) (Option.some Jvm.ClassFile.FieldType.long)) ∈ lw_all := lw_g (lw_at lw_m3 155 rfl) rfl
/-! java/lang/Integer -/
set_option maxRecDepth 100000
def RJ6 : String := "java/lang/Integer"
abbrev cJ6_bitCount : ByteArray := prog_18_method_49_code
def yJ6_bitCount : MethodName := ⟨RJ6, "bitCount", "(I)I"⟩
def dkwJ6_bitCount_2 : List UInt8 := [26, 16, 63, 126, 172]
abbrev dktJ6_bitCount_2 : List UInt8 := dkwJ6_bitCount_2 ++ []
def dkwJ6_bitCount_1 : List UInt8 := [26, 26, 7, 124, 96, 19, 1, 11, 126, 59, 26, 26, 16, 8, 124, 96, 59, 26, 26, 16, 16, 124, 96, 59]
abbrev dktJ6_bitCount_1 : List UInt8 := dkwJ6_bitCount_1 ++ dktJ6_bitCount_2
def dkwJ6_bitCount_0 : List UInt8 := [26, 26, 4, 124, 19, 1, 9, 126, 100, 59, 26, 19, 1, 10, 126, 26, 5, 124, 19, 1, 10, 126, 96, 59]
abbrev dktJ6_bitCount_0 : List UInt8 := dkwJ6_bitCount_0 ++ dktJ6_bitCount_1
theorem dksJ6_bitCount_0 : cJ6_bitCount.data.toList.drop 0 = dktJ6_bitCount_0 := by decide +kernel
theorem dksJ6_bitCount_1 : cJ6_bitCount.data.toList.drop 24 = dktJ6_bitCount_1 := dk_seg dksJ6_bitCount_0 24 rfl rfl
theorem dksJ6_bitCount_2 : cJ6_bitCount.data.toList.drop 48 = dktJ6_bitCount_2 := dk_seg dksJ6_bitCount_1 24 rfl rfl
theorem dJ6_bitCount_0 : decode cJ6_bitCount 0 = .ok (.iload_n 0, 1) := dk_26 (dk_at dksJ6_bitCount_0 0 rfl rfl)
theorem dJ6_bitCount_1 : decode cJ6_bitCount 1 = .ok (.iload_n 0, 1) := dk_26 (dk_at dksJ6_bitCount_0 1 rfl rfl)
theorem dJ6_bitCount_2 : decode cJ6_bitCount 2 = .ok (.iconst 1, 1) := dk_4 (dk_at dksJ6_bitCount_0 2 rfl rfl)
theorem dJ6_bitCount_3 : decode cJ6_bitCount 3 = .ok (.iushr, 1) := dk_124 (dk_at dksJ6_bitCount_0 3 rfl rfl)
theorem dJ6_bitCount_4 : decode cJ6_bitCount 4 = .ok (.ldc_w 265, 3) := dk_19 1 9 (dk_at dksJ6_bitCount_0 4 rfl rfl)
theorem dJ6_bitCount_7 : decode cJ6_bitCount 7 = .ok (.iand, 1) := dk_126 (dk_at dksJ6_bitCount_0 7 rfl rfl)
theorem dJ6_bitCount_8 : decode cJ6_bitCount 8 = .ok (.isub, 1) := dk_100 (dk_at dksJ6_bitCount_0 8 rfl rfl)
theorem dJ6_bitCount_9 : decode cJ6_bitCount 9 = .ok (.istore_n 0, 1) := dk_59 (dk_at dksJ6_bitCount_0 9 rfl rfl)
theorem dJ6_bitCount_10 : decode cJ6_bitCount 10 = .ok (.iload_n 0, 1) := dk_26 (dk_at dksJ6_bitCount_0 10 rfl rfl)
theorem dJ6_bitCount_11 : decode cJ6_bitCount 11 = .ok (.ldc_w 266, 3) := dk_19 1 10 (dk_at dksJ6_bitCount_0 11 rfl rfl)
theorem dJ6_bitCount_14 : decode cJ6_bitCount 14 = .ok (.iand, 1) := dk_126 (dk_at dksJ6_bitCount_0 14 rfl rfl)
theorem dJ6_bitCount_15 : decode cJ6_bitCount 15 = .ok (.iload_n 0, 1) := dk_26 (dk_at dksJ6_bitCount_0 15 rfl rfl)
theorem dJ6_bitCount_16 : decode cJ6_bitCount 16 = .ok (.iconst 2, 1) := dk_5 (dk_at dksJ6_bitCount_0 16 rfl rfl)
theorem dJ6_bitCount_17 : decode cJ6_bitCount 17 = .ok (.iushr, 1) := dk_124 (dk_at dksJ6_bitCount_0 17 rfl rfl)
theorem dJ6_bitCount_18 : decode cJ6_bitCount 18 = .ok (.ldc_w 266, 3) := dk_19 1 10 (dk_at dksJ6_bitCount_0 18 rfl rfl)
theorem dJ6_bitCount_21 : decode cJ6_bitCount 21 = .ok (.iand, 1) := dk_126 (dk_at dksJ6_bitCount_0 21 rfl rfl)
theorem dJ6_bitCount_22 : decode cJ6_bitCount 22 = .ok (.iadd, 1) := dk_96 (dk_at dksJ6_bitCount_0 22 rfl rfl)
theorem dJ6_bitCount_23 : decode cJ6_bitCount 23 = .ok (.istore_n 0, 1) := dk_59 (dk_at dksJ6_bitCount_0 23 rfl rfl)
theorem dJ6_bitCount_24 : decode cJ6_bitCount 24 = .ok (.iload_n 0, 1) := dk_26 (dk_at dksJ6_bitCount_1 0 rfl rfl)
theorem dJ6_bitCount_25 : decode cJ6_bitCount 25 = .ok (.iload_n 0, 1) := dk_26 (dk_at dksJ6_bitCount_1 1 rfl rfl)
theorem dJ6_bitCount_26 : decode cJ6_bitCount 26 = .ok (.iconst 4, 1) := dk_7 (dk_at dksJ6_bitCount_1 2 rfl rfl)
theorem dJ6_bitCount_27 : decode cJ6_bitCount 27 = .ok (.iushr, 1) := dk_124 (dk_at dksJ6_bitCount_1 3 rfl rfl)
theorem dJ6_bitCount_28 : decode cJ6_bitCount 28 = .ok (.iadd, 1) := dk_96 (dk_at dksJ6_bitCount_1 4 rfl rfl)
theorem dJ6_bitCount_29 : decode cJ6_bitCount 29 = .ok (.ldc_w 267, 3) := dk_19 1 11 (dk_at dksJ6_bitCount_1 5 rfl rfl)
theorem dJ6_bitCount_32 : decode cJ6_bitCount 32 = .ok (.iand, 1) := dk_126 (dk_at dksJ6_bitCount_1 8 rfl rfl)
theorem dJ6_bitCount_33 : decode cJ6_bitCount 33 = .ok (.istore_n 0, 1) := dk_59 (dk_at dksJ6_bitCount_1 9 rfl rfl)
theorem dJ6_bitCount_34 : decode cJ6_bitCount 34 = .ok (.iload_n 0, 1) := dk_26 (dk_at dksJ6_bitCount_1 10 rfl rfl)
theorem dJ6_bitCount_35 : decode cJ6_bitCount 35 = .ok (.iload_n 0, 1) := dk_26 (dk_at dksJ6_bitCount_1 11 rfl rfl)
theorem dJ6_bitCount_36 : decode cJ6_bitCount 36 = .ok (.bipush 8, 2) := dk_16 8 (dk_at dksJ6_bitCount_1 12 rfl rfl)
theorem dJ6_bitCount_38 : decode cJ6_bitCount 38 = .ok (.iushr, 1) := dk_124 (dk_at dksJ6_bitCount_1 14 rfl rfl)
theorem dJ6_bitCount_39 : decode cJ6_bitCount 39 = .ok (.iadd, 1) := dk_96 (dk_at dksJ6_bitCount_1 15 rfl rfl)
theorem dJ6_bitCount_40 : decode cJ6_bitCount 40 = .ok (.istore_n 0, 1) := dk_59 (dk_at dksJ6_bitCount_1 16 rfl rfl)
theorem dJ6_bitCount_41 : decode cJ6_bitCount 41 = .ok (.iload_n 0, 1) := dk_26 (dk_at dksJ6_bitCount_1 17 rfl rfl)
theorem dJ6_bitCount_42 : decode cJ6_bitCount 42 = .ok (.iload_n 0, 1) := dk_26 (dk_at dksJ6_bitCount_1 18 rfl rfl)
theorem dJ6_bitCount_43 : decode cJ6_bitCount 43 = .ok (.bipush 16, 2) := dk_16 16 (dk_at dksJ6_bitCount_1 19 rfl rfl)
theorem dJ6_bitCount_45 : decode cJ6_bitCount 45 = .ok (.iushr, 1) := dk_124 (dk_at dksJ6_bitCount_1 21 rfl rfl)
theorem dJ6_bitCount_46 : decode cJ6_bitCount 46 = .ok (.iadd, 1) := dk_96 (dk_at dksJ6_bitCount_1 22 rfl rfl)
theorem dJ6_bitCount_47 : decode cJ6_bitCount 47 = .ok (.istore_n 0, 1) := dk_59 (dk_at dksJ6_bitCount_1 23 rfl rfl)
theorem dJ6_bitCount_48 : decode cJ6_bitCount 48 = .ok (.iload_n 0, 1) := dk_26 (dk_at dksJ6_bitCount_2 0 rfl rfl)
theorem dJ6_bitCount_49 : decode cJ6_bitCount 49 = .ok (.bipush 63, 2) := dk_16 63 (dk_at dksJ6_bitCount_2 1 rfl rfl)
theorem dJ6_bitCount_51 : decode cJ6_bitCount 51 = .ok (.iand, 1) := dk_126 (dk_at dksJ6_bitCount_2 3 rfl rfl)
theorem dJ6_bitCount_52 : decode cJ6_bitCount 52 = .ok (.ireturn, 1) := dk_172 (dk_at dksJ6_bitCount_2 4 rfl rfl)
theorem q91 : (Jvm.Cond.initialized "java/lang/Integer") ∈ lw_all := lw_g (lw_at lw_m1 20 rfl) rfl
theorem q752 : (Jvm.Cond.static ({ cls := "java/lang/Integer", name := "bitCount", desc := "(I)I" } : Jvm.MethodName)) ∈ lw_all := lw_g (lw_at lw_m3 201 rfl) rfl
theorem q753 : (Jvm.Cond.code ({ cls := "java/lang/Integer", name := "bitCount", desc := "(I)I" } : Jvm.MethodName) prog_18_method_49_code (1 : Nat) (Option.some Jvm.ClassFile.FieldType.int)) ∈ lw_all := lw_g (lw_at lw_m3 202 rfl) rfl
theorem q754 : (Jvm.Cond.constant "java/lang/Integer" (265 : Nat) (1431655765 : Int32)) ∈ lw_all := lw_g (lw_at lw_m3 203 rfl) rfl
theorem q755 : (Jvm.Cond.constant "java/lang/Integer" (266 : Nat) (858993459 : Int32)) ∈ lw_all := lw_g (lw_at lw_m3 204 rfl) rfl
theorem q756 : (Jvm.Cond.constant "java/lang/Integer" (267 : Nat) (252645135 : Int32)) ∈ lw_all := lw_g (lw_at lw_m3 205 rfl) rfl
/-! java/lang/String -/
set_option maxRecDepth 100000
def RJ5 : String := "java/lang/String"
def TJ5 : u_T := fun k => match k with
  | 0 => ("java/lang/String", "value", "[B", true)
  | _ => ("java/lang/String", "coder", "B", true)
def tyJ5 : Nat → FieldType := fun k => match k with
  | 0 => .array .byte
  | _ => .byte
abbrev wsJ50 : List Cond := u_ws RJ5 TJ5 2
theorem nmJ5 : ∀ a, a < 2 → ∀ b, b < 2 → a ≠ b → (TJ5 a).2.1 ≠ (TJ5 b).2.1 := by decide +kernel
theorem tyJ5_ok : ∀ k, k < 2 → parseFieldDescriptor (TJ5 k).2.2.1 = some (tyJ5 k) := by decide +kernel
theorem q88 : (Jvm.Cond.initialized "java/lang/String") ∈ lw_all := lw_g (lw_at lw_m1 17 rfl) rfl
theorem q585 : (Jvm.Cond.instantiable "java/lang/String" (4 : Nat)) ∈ lw_all := lw_g (lw_at lw_m3 34 rfl) rfl
theorem q586 : (Jvm.Cond.laysFinal "java/lang/String" "java/lang/String" "value" "[B") ∈ lw_all := lw_g (lw_at lw_m3 35 rfl) rfl
theorem q587 : (Jvm.Cond.soleField "java/lang/String" "value") ∈ lw_all := lw_g (lw_at lw_m3 36 rfl) rfl
theorem q588 : (Jvm.Cond.laysFinal "java/lang/String" "java/lang/String" "coder" "B") ∈ lw_all := lw_g (lw_at lw_m3 37 rfl) rfl
theorem q589 : (Jvm.Cond.soleField "java/lang/String" "coder") ∈ lw_all := lw_g (lw_at lw_m3 38 rfl) rfl
theorem in_J5 : ∀ w ∈ wsJ50, w ∈ lw_all := lw_in wsJ50 [586, 588] (by decide +kernel) (by decide +kernel)
/-! java/lang/Throwable -/
set_option maxRecDepth 100000
def RJ0 : String := "java/lang/Throwable"
def TJ0 : u_T := fun k => match k with
  | 0 => ("java/lang/Throwable", "cause", "Ljava/lang/Throwable;", false)
  | 1 => ("java/lang/Throwable", "stackTrace", "[Ljava/lang/StackTraceElement;", false)
  | 2 => ("java/lang/Throwable", "suppressedExceptions", "Ljava/util/List;", false)
  | 3 => ("java/lang/Throwable", "detailMessage", "Ljava/lang/String;", false)
  | _ => ("java/lang/Throwable", "backtrace", "Ljava/lang/Object;", false)
def tyJ0 : Nat → FieldType := fun k => match k with
  | 0 => .object "java/lang/Throwable"
  | 1 => .array (.object "java/lang/StackTraceElement")
  | 2 => .object "java/util/List"
  | 3 => .object "java/lang/String"
  | _ => .object "java/lang/Object"
abbrev wsJ00 : List Cond := u_ws RJ0 TJ0 5
theorem nmJ0 : ∀ a, a < 5 → ∀ b, b < 5 → a ≠ b → (TJ0 a).2.1 ≠ (TJ0 b).2.1 := by decide +kernel
theorem tyJ0_ok : ∀ k, k < 5 → parseFieldDescriptor (TJ0 k).2.2.1 = some (tyJ0 k) := by decide +kernel
abbrev cJ0_init : ByteArray := prog_23_method_1_code
def yJ0_init : MethodName := ⟨RJ0, "<init>", "()V"⟩
def dkwJ0_init_1 : List UInt8 := [182, 0, 27, 87, 177]
abbrev dktJ0_init_1 : List UInt8 := dkwJ0_init_1 ++ []
def dkwJ0_init_0 : List UInt8 := [42, 183, 0, 1, 42, 42, 181, 0, 7, 42, 178, 0, 13, 181, 0, 17, 42, 178, 0, 20, 181, 0, 24, 42]
abbrev dktJ0_init_0 : List UInt8 := dkwJ0_init_0 ++ dktJ0_init_1
theorem dksJ0_init_0 : cJ0_init.data.toList.drop 0 = dktJ0_init_0 := by decide +kernel
theorem dksJ0_init_1 : cJ0_init.data.toList.drop 24 = dktJ0_init_1 := dk_seg dksJ0_init_0 24 rfl rfl
theorem dJ0_init_0 : decode cJ0_init 0 = .ok (.aload_n 0, 1) := dk_42 (dk_at dksJ0_init_0 0 rfl rfl)
theorem dJ0_init_1 : decode cJ0_init 1 = .ok (.invokespecial 1, 3) := dk_183 0 1 (dk_at dksJ0_init_0 1 rfl rfl)
theorem dJ0_init_4 : decode cJ0_init 4 = .ok (.aload_n 0, 1) := dk_42 (dk_at dksJ0_init_0 4 rfl rfl)
theorem dJ0_init_5 : decode cJ0_init 5 = .ok (.aload_n 0, 1) := dk_42 (dk_at dksJ0_init_0 5 rfl rfl)
theorem dJ0_init_6 : decode cJ0_init 6 = .ok (.putfield 7, 3) := dk_181 0 7 (dk_at dksJ0_init_0 6 rfl rfl)
theorem dJ0_init_9 : decode cJ0_init 9 = .ok (.aload_n 0, 1) := dk_42 (dk_at dksJ0_init_0 9 rfl rfl)
theorem dJ0_init_10 : decode cJ0_init 10 = .ok (.getstatic 13, 3) := dk_178 0 13 (dk_at dksJ0_init_0 10 rfl rfl)
theorem dJ0_init_13 : decode cJ0_init 13 = .ok (.putfield 17, 3) := dk_181 0 17 (dk_at dksJ0_init_0 13 rfl rfl)
theorem dJ0_init_16 : decode cJ0_init 16 = .ok (.aload_n 0, 1) := dk_42 (dk_at dksJ0_init_0 16 rfl rfl)
theorem dJ0_init_17 : decode cJ0_init 17 = .ok (.getstatic 20, 3) := dk_178 0 20 (dk_at dksJ0_init_0 17 rfl rfl)
theorem dJ0_init_20 : decode cJ0_init 20 = .ok (.putfield 24, 3) := dk_181 0 24 (dk_at dksJ0_init_0 20 rfl rfl)
theorem dJ0_init_23 : decode cJ0_init 23 = .ok (.aload_n 0, 1) := dk_42 (dk_at dksJ0_init_0 23 rfl rfl)
theorem dJ0_init_24 : decode cJ0_init 24 = .ok (.invokevirtual 27, 3) := dk_182 0 27 (dk_at dksJ0_init_1 0 rfl rfl)
theorem dJ0_init_27 : decode cJ0_init 27 = .ok (.pop, 1) := dk_87 (dk_at dksJ0_init_1 3 rfl rfl)
theorem dJ0_init_28 : decode cJ0_init 28 = .ok (.return_, 1) := dk_177 (dk_at dksJ0_init_1 4 rfl rfl)
abbrev cJ0_init_2 : ByteArray := prog_23_method_2_code
def yJ0_init_2 : MethodName := ⟨RJ0, "<init>", "(Ljava/lang/String;)V"⟩
def dkwJ0_init_2_1 : List UInt8 := [182, 0, 27, 87, 42, 43, 181, 0, 31, 177]
abbrev dktJ0_init_2_1 : List UInt8 := dkwJ0_init_2_1 ++ []
def dkwJ0_init_2_0 : List UInt8 := [42, 183, 0, 1, 42, 42, 181, 0, 7, 42, 178, 0, 13, 181, 0, 17, 42, 178, 0, 20, 181, 0, 24, 42]
abbrev dktJ0_init_2_0 : List UInt8 := dkwJ0_init_2_0 ++ dktJ0_init_2_1
theorem dksJ0_init_2_0 : cJ0_init_2.data.toList.drop 0 = dktJ0_init_2_0 := by decide +kernel
theorem dksJ0_init_2_1 : cJ0_init_2.data.toList.drop 24 = dktJ0_init_2_1 := dk_seg dksJ0_init_2_0 24 rfl rfl
theorem dJ0_init_2_0 : decode cJ0_init_2 0 = .ok (.aload_n 0, 1) := dk_42 (dk_at dksJ0_init_2_0 0 rfl rfl)
theorem dJ0_init_2_1 : decode cJ0_init_2 1 = .ok (.invokespecial 1, 3) := dk_183 0 1 (dk_at dksJ0_init_2_0 1 rfl rfl)
theorem dJ0_init_2_4 : decode cJ0_init_2 4 = .ok (.aload_n 0, 1) := dk_42 (dk_at dksJ0_init_2_0 4 rfl rfl)
theorem dJ0_init_2_5 : decode cJ0_init_2 5 = .ok (.aload_n 0, 1) := dk_42 (dk_at dksJ0_init_2_0 5 rfl rfl)
theorem dJ0_init_2_6 : decode cJ0_init_2 6 = .ok (.putfield 7, 3) := dk_181 0 7 (dk_at dksJ0_init_2_0 6 rfl rfl)
theorem dJ0_init_2_9 : decode cJ0_init_2 9 = .ok (.aload_n 0, 1) := dk_42 (dk_at dksJ0_init_2_0 9 rfl rfl)
theorem dJ0_init_2_10 : decode cJ0_init_2 10 = .ok (.getstatic 13, 3) := dk_178 0 13 (dk_at dksJ0_init_2_0 10 rfl rfl)
theorem dJ0_init_2_13 : decode cJ0_init_2 13 = .ok (.putfield 17, 3) := dk_181 0 17 (dk_at dksJ0_init_2_0 13 rfl rfl)
theorem dJ0_init_2_16 : decode cJ0_init_2 16 = .ok (.aload_n 0, 1) := dk_42 (dk_at dksJ0_init_2_0 16 rfl rfl)
theorem dJ0_init_2_17 : decode cJ0_init_2 17 = .ok (.getstatic 20, 3) := dk_178 0 20 (dk_at dksJ0_init_2_0 17 rfl rfl)
theorem dJ0_init_2_20 : decode cJ0_init_2 20 = .ok (.putfield 24, 3) := dk_181 0 24 (dk_at dksJ0_init_2_0 20 rfl rfl)
theorem dJ0_init_2_23 : decode cJ0_init_2 23 = .ok (.aload_n 0, 1) := dk_42 (dk_at dksJ0_init_2_0 23 rfl rfl)
theorem dJ0_init_2_24 : decode cJ0_init_2 24 = .ok (.invokevirtual 27, 3) := dk_182 0 27 (dk_at dksJ0_init_2_1 0 rfl rfl)
theorem dJ0_init_2_27 : decode cJ0_init_2 27 = .ok (.pop, 1) := dk_87 (dk_at dksJ0_init_2_1 3 rfl rfl)
theorem dJ0_init_2_28 : decode cJ0_init_2 28 = .ok (.aload_n 0, 1) := dk_42 (dk_at dksJ0_init_2_1 4 rfl rfl)
theorem dJ0_init_2_29 : decode cJ0_init_2 29 = .ok (.aload_n 1, 1) := dk_43 (dk_at dksJ0_init_2_1 5 rfl rfl)
theorem dJ0_init_2_30 : decode cJ0_init_2 30 = .ok (.putfield 31, 3) := dk_181 0 31 (dk_at dksJ0_init_2_1 6 rfl rfl)
theorem dJ0_init_2_33 : decode cJ0_init_2 33 = .ok (.return_, 1) := dk_177 (dk_at dksJ0_init_2_1 9 rfl rfl)
theorem q75 : (Jvm.Cond.initialized "java/lang/Throwable") ∈ lw_all := lw_g (lw_at lw_m1 4 rfl) rfl
theorem q179 : (Jvm.Cond.declares ({ cls := "java/lang/Throwable", name := "<init>", desc := "()V" } : Jvm.MethodName)) ∈ lw_tbl := lw_at lw_m1 108 rfl
theorem q180 : (Jvm.Cond.declares ({ cls := "java/lang/Throwable", name := "<init>", desc := "(Ljava/lang/String;)V" } : Jvm.MethodName)) ∈ lw_tbl := lw_at lw_m1 109 rfl
theorem q184 : (Jvm.Cond.lays "java/lang/Throwable" "java/lang/Throwable" "cause" "Ljava/lang/Throwable;") ∈ lw_all := lw_g (lw_at lw_m1 113 rfl) rfl
theorem q186 : (Jvm.Cond.lays "java/lang/Throwable" "java/lang/Throwable" "stackTrace" "[Ljava/lang/StackTraceElement;") ∈ lw_all := lw_g (lw_at lw_m1 115 rfl) rfl
theorem q188 : (Jvm.Cond.lays "java/lang/Throwable" "java/lang/Throwable" "suppressedExceptions" "Ljava/util/List;") ∈ lw_all := lw_g (lw_at lw_m1 117 rfl) rfl
theorem q190 : (Jvm.Cond.lays "java/lang/Throwable" "java/lang/Throwable" "detailMessage" "Ljava/lang/String;") ∈ lw_all := lw_g (lw_at lw_m1 119 rfl) rfl
theorem q192 : (Jvm.Cond.lays "java/lang/Throwable" "java/lang/Throwable" "backtrace" "Ljava/lang/Object;") ∈ lw_all := lw_g (lw_at lw_m1 121 rfl) rfl
theorem q193 : (Jvm.Cond.fieldLink "java/lang/Throwable" (198 : Nat) "java/lang/Throwable" "backtrace" "Ljava/lang/Object;") ∈ lw_all := lw_g (lw_at lw_m1 122 rfl) rfl
theorem q194 : (Jvm.Cond.superclass "java/lang/Throwable" "java/lang/Object") ∈ lw_all := lw_g (lw_at lw_m1 123 rfl) rfl
theorem q195 : (Jvm.Cond.instanceMethod ({ cls := "java/lang/Throwable", name := "<init>", desc := "()V" } : Jvm.MethodName)) ∈ lw_all := lw_g (lw_at lw_m1 124 rfl) rfl
theorem q196 : (Jvm.Cond.code ({ cls := "java/lang/Throwable", name := "<init>", desc := "()V" } : Jvm.MethodName) prog_23_method_1_code (1 : Nat) (Option.none : Option Jvm.ClassFile.FieldType)) ∈ lw_all := lw_g (lw_at lw_m1 125 rfl) rfl
theorem q197 : (Jvm.Cond.methodLink "java/lang/Throwable" (1 : Nat) ({ cls := "java/lang/Object", name := "<init>", desc := "()V" } : Jvm.MethodName)) ∈ lw_all := lw_g (lw_at lw_m1 126 rfl) rfl
theorem q198 : (Jvm.Cond.fieldLink "java/lang/Throwable" (13 : Nat) "java/lang/Throwable" "UNASSIGNED_STACK" "[Ljava/lang/StackTraceElement;") ∈ lw_all := lw_g (lw_at lw_m1 127 rfl) rfl
theorem q199 : (Jvm.Cond.laysStatic "java/lang/Throwable" "UNASSIGNED_STACK" "[Ljava/lang/StackTraceElement;") ∈ lw_tbl := lw_at lw_m1 128 rfl
theorem q200 : (Jvm.Cond.fieldLink "java/lang/Throwable" (20 : Nat) "java/lang/Throwable" "SUPPRESSED_SENTINEL" "Ljava/util/List;") ∈ lw_all := lw_g (lw_at lw_m1 129 rfl) rfl
theorem q201 : (Jvm.Cond.laysStatic "java/lang/Throwable" "SUPPRESSED_SENTINEL" "Ljava/util/List;") ∈ lw_tbl := lw_at lw_m1 130 rfl
theorem q202 : (Jvm.Cond.methodLink "java/lang/Throwable" (27 : Nat) ({ cls := "java/lang/Throwable", name := "fillInStackTrace", desc := "()Ljava/lang/Throwable;" } : Jvm.MethodName)) ∈ lw_all := lw_g (lw_at lw_m1 131 rfl) rfl
theorem q203 : (Jvm.Cond.instanceMethod ({ cls := "java/lang/Throwable", name := "fillInStackTrace", desc := "()Ljava/lang/Throwable;" } : Jvm.MethodName)) ∈ lw_all := lw_g (lw_at lw_m1 132 rfl) rfl
theorem q204 : (Jvm.Cond.sameMethod "java/lang/Throwable" "java/lang/Throwable" "fillInStackTrace" "()Ljava/lang/Throwable;") ∈ lw_all := lw_g (lw_at lw_m1 133 rfl) rfl
theorem q206 : (Jvm.Cond.codeSync ({ cls := "java/lang/Throwable", name := "fillInStackTrace", desc := "()Ljava/lang/Throwable;" } : Jvm.MethodName) prog_23_method_18_code (1 : Nat) (Option.some (Jvm.ClassFile.FieldType.object "java/lang/Throwable"))) ∈ lw_all := lw_g (lw_at lw_m1 135 rfl) rfl
theorem q207 : (Jvm.Cond.methodLink "java/lang/Throwable" (202 : Nat) ({ cls := "java/lang/Throwable", name := "fillInStackTrace", desc := "(I)Ljava/lang/Throwable;" } : Jvm.MethodName)) ∈ lw_all := lw_g (lw_at lw_m1 136 rfl) rfl
theorem q208 : (Jvm.Cond.privateMethod ({ cls := "java/lang/Throwable", name := "fillInStackTrace", desc := "(I)Ljava/lang/Throwable;" } : Jvm.MethodName)) ∈ lw_tbl := lw_at lw_m1 137 rfl
theorem q209 : (Jvm.Cond.instanceMethod ({ cls := "java/lang/Throwable", name := "fillInStackTrace", desc := "(I)Ljava/lang/Throwable;" } : Jvm.MethodName)) ∈ lw_all := lw_g (lw_at lw_m1 138 rfl) rfl
theorem q210 : (Jvm.Cond.instantiable "java/lang/Throwable" (6 : Nat)) ∈ lw_all := lw_g (lw_at lw_m1 139 rfl) rfl
theorem q211 : (Jvm.Cond.native ({ cls := "java/lang/Throwable", name := "fillInStackTrace", desc := "(I)Ljava/lang/Throwable;" } : Jvm.MethodName)) ∈ lw_all := lw_g (lw_at lw_m1 140 rfl) rfl
theorem q220 : (Jvm.Cond.instanceMethod ({ cls := "java/lang/Throwable", name := "<init>", desc := "(Ljava/lang/String;)V" } : Jvm.MethodName)) ∈ lw_all := lw_g (lw_at lw_m1 149 rfl) rfl
theorem q221 : (Jvm.Cond.code ({ cls := "java/lang/Throwable", name := "<init>", desc := "(Ljava/lang/String;)V" } : Jvm.MethodName) prog_23_method_2_code (2 : Nat) (Option.none : Option Jvm.ClassFile.FieldType)) ∈ lw_all := lw_g (lw_at lw_m1 150 rfl) rfl
theorem q226 : (Jvm.Cond.fieldLink "java/lang/Throwable" (198 : Nat) "java/lang/Throwable" "backtrace" "Ljava/lang/Object;") ∈ lw_all := lw_g (lw_at lw_m1 155 rfl) rfl
theorem q227 : (Jvm.Cond.fieldLink "java/lang/Throwable" (31 : Nat) "java/lang/Throwable" "detailMessage" "Ljava/lang/String;") ∈ lw_all := lw_g (lw_at lw_m1 156 rfl) rfl
theorem q228 : (Jvm.Cond.fieldLink "java/lang/Throwable" (7 : Nat) "java/lang/Throwable" "cause" "Ljava/lang/Throwable;") ∈ lw_all := lw_g (lw_at lw_m1 157 rfl) rfl
theorem q229 : (Jvm.Cond.fieldLink "java/lang/Throwable" (17 : Nat) "java/lang/Throwable" "stackTrace" "[Ljava/lang/StackTraceElement;") ∈ lw_all := lw_g (lw_at lw_m1 158 rfl) rfl
theorem q230 : (Jvm.Cond.fieldLink "java/lang/Throwable" (24 : Nat) "java/lang/Throwable" "suppressedExceptions" "Ljava/util/List;") ∈ lw_all := lw_g (lw_at lw_m1 159 rfl) rfl
theorem q235 : (Jvm.Cond.soleField "java/lang/Throwable" "backtrace") ∈ lw_all := lw_g (lw_at lw_m1 164 rfl) rfl
theorem q236 : (Jvm.Cond.soleField "java/lang/Throwable" "detailMessage") ∈ lw_all := lw_g (lw_at lw_m1 165 rfl) rfl
theorem q237 : (Jvm.Cond.soleField "java/lang/Throwable" "cause") ∈ lw_all := lw_g (lw_at lw_m1 166 rfl) rfl
theorem q238 : (Jvm.Cond.soleField "java/lang/Throwable" "stackTrace") ∈ lw_all := lw_g (lw_at lw_m1 167 rfl) rfl
theorem q240 : (Jvm.Cond.soleField "java/lang/Throwable" "depth") ∈ lw_all := lw_g (lw_at lw_m1 169 rfl) rfl
theorem q241 : (Jvm.Cond.soleField "java/lang/Throwable" "suppressedExceptions") ∈ lw_all := lw_g (lw_at lw_m1 170 rfl) rfl
theorem q1422 : (Jvm.Cond.sameMethod "java/lang/Throwable" "java/lang/Throwable" "fillInStackTrace" "(I)Ljava/lang/Throwable;") ∈ lw_all := lw_g (lw_at lw_m6 151 rfl) rfl
theorem in_J0 : ∀ w ∈ wsJ00, w ∈ lw_all := lw_in wsJ00 [184, 186, 188, 190, 192] (by decide +kernel) (by decide +kernel)
/-! java/lang/Exception -/
set_option maxRecDepth 100000
def RJ1 : String := "java/lang/Exception"
abbrev cJ1_init : ByteArray := prog_17_method_2_code
def yJ1_init : MethodName := ⟨RJ1, "<init>", "(Ljava/lang/String;)V"⟩
def dkwJ1_init_0 : List UInt8 := [42, 43, 183, 0, 7, 177]
abbrev dktJ1_init_0 : List UInt8 := dkwJ1_init_0 ++ []
theorem dksJ1_init_0 : cJ1_init.data.toList.drop 0 = dktJ1_init_0 := by decide +kernel
theorem dJ1_init_0 : decode cJ1_init 0 = .ok (.aload_n 0, 1) := dk_42 (dk_at dksJ1_init_0 0 rfl rfl)
theorem dJ1_init_1 : decode cJ1_init 1 = .ok (.aload_n 1, 1) := dk_43 (dk_at dksJ1_init_0 1 rfl rfl)
theorem dJ1_init_2 : decode cJ1_init 2 = .ok (.invokespecial 7, 3) := dk_183 0 7 (dk_at dksJ1_init_0 2 rfl rfl)
theorem dJ1_init_5 : decode cJ1_init 5 = .ok (.return_, 1) := dk_177 (dk_at dksJ1_init_0 5 rfl rfl)
theorem q76 : (Jvm.Cond.initialized "java/lang/Exception") ∈ lw_all := lw_g (lw_at lw_m1 5 rfl) rfl
theorem q177 : (Jvm.Cond.declares ({ cls := "java/lang/Exception", name := "<init>", desc := "()V" } : Jvm.MethodName)) ∈ lw_tbl := lw_at lw_m1 106 rfl
theorem q178 : (Jvm.Cond.declares ({ cls := "java/lang/Exception", name := "<init>", desc := "(Ljava/lang/String;)V" } : Jvm.MethodName)) ∈ lw_tbl := lw_at lw_m1 107 rfl
theorem q217 : (Jvm.Cond.instanceMethod ({ cls := "java/lang/Exception", name := "<init>", desc := "(Ljava/lang/String;)V" } : Jvm.MethodName)) ∈ lw_all := lw_g (lw_at lw_m1 146 rfl) rfl
theorem q218 : (Jvm.Cond.code ({ cls := "java/lang/Exception", name := "<init>", desc := "(Ljava/lang/String;)V" } : Jvm.MethodName) prog_17_method_2_code (2 : Nat) (Option.none : Option Jvm.ClassFile.FieldType)) ∈ lw_all := lw_g (lw_at lw_m1 147 rfl) rfl
theorem q219 : (Jvm.Cond.methodLink "java/lang/Exception" (7 : Nat) ({ cls := "java/lang/Throwable", name := "<init>", desc := "(Ljava/lang/String;)V" } : Jvm.MethodName)) ∈ lw_all := lw_g (lw_at lw_m1 148 rfl) rfl
/-! java/lang/RuntimeException -/
set_option maxRecDepth 100000
def RJ3 : String := "java/lang/RuntimeException"
abbrev cJ3_init : ByteArray := prog_20_method_2_code
def yJ3_init : MethodName := ⟨RJ3, "<init>", "(Ljava/lang/String;)V"⟩
def dkwJ3_init_0 : List UInt8 := [42, 43, 183, 0, 7, 177]
abbrev dktJ3_init_0 : List UInt8 := dkwJ3_init_0 ++ []
theorem dksJ3_init_0 : cJ3_init.data.toList.drop 0 = dktJ3_init_0 := by decide +kernel
theorem dJ3_init_0 : decode cJ3_init 0 = .ok (.aload_n 0, 1) := dk_42 (dk_at dksJ3_init_0 0 rfl rfl)
theorem dJ3_init_1 : decode cJ3_init 1 = .ok (.aload_n 1, 1) := dk_43 (dk_at dksJ3_init_0 1 rfl rfl)
theorem dJ3_init_2 : decode cJ3_init 2 = .ok (.invokespecial 7, 3) := dk_183 0 7 (dk_at dksJ3_init_0 2 rfl rfl)
theorem dJ3_init_5 : decode cJ3_init 5 = .ok (.return_, 1) := dk_177 (dk_at dksJ3_init_0 5 rfl rfl)
theorem q86 : (Jvm.Cond.initialized "java/lang/RuntimeException") ∈ lw_all := lw_g (lw_at lw_m1 15 rfl) rfl
theorem q571 : (Jvm.Cond.instanceMethod ({ cls := "java/lang/RuntimeException", name := "<init>", desc := "(Ljava/lang/String;)V" } : Jvm.MethodName)) ∈ lw_all := lw_g (lw_at lw_m3 20 rfl) rfl
theorem q572 : (Jvm.Cond.code ({ cls := "java/lang/RuntimeException", name := "<init>", desc := "(Ljava/lang/String;)V" } : Jvm.MethodName) prog_20_method_2_code (2 : Nat) (Option.none : Option Jvm.ClassFile.FieldType)) ∈ lw_all := lw_g (lw_at lw_m3 21 rfl) rfl
theorem q573 : (Jvm.Cond.methodLink "java/lang/RuntimeException" (7 : Nat) ({ cls := "java/lang/Exception", name := "<init>", desc := "(Ljava/lang/String;)V" } : Jvm.MethodName)) ∈ lw_all := lw_g (lw_at lw_m3 22 rfl) rfl
theorem q582 : (Jvm.Cond.declares ({ cls := "java/lang/RuntimeException", name := "<init>", desc := "()V" } : Jvm.MethodName)) ∈ lw_tbl := lw_at lw_m3 31 rfl
theorem q583 : (Jvm.Cond.declares ({ cls := "java/lang/RuntimeException", name := "<init>", desc := "(Ljava/lang/String;)V" } : Jvm.MethodName)) ∈ lw_tbl := lw_at lw_m3 32 rfl
/-! java/lang/ArrayStoreException -/
set_option maxRecDepth 100000
def RJ4 : String := "java/lang/ArrayStoreException"
def TJ4 : u_T := fun k => match k with
  | 0 => ("java/lang/Throwable", "backtrace", "Ljava/lang/Object;", false)
  | 1 => ("java/lang/Throwable", "detailMessage", "Ljava/lang/String;", false)
  | 2 => ("java/lang/Throwable", "cause", "Ljava/lang/Throwable;", false)
  | 3 => ("java/lang/Throwable", "stackTrace", "[Ljava/lang/StackTraceElement;", false)
  | 4 => ("java/lang/Throwable", "depth", "I", false)
  | _ => ("java/lang/Throwable", "suppressedExceptions", "Ljava/util/List;", false)
def tyJ4 : Nat → FieldType := fun k => match k with
  | 0 => .object "java/lang/Object"
  | 1 => .object "java/lang/String"
  | 2 => .object "java/lang/Throwable"
  | 3 => .array (.object "java/lang/StackTraceElement")
  | 4 => .int
  | _ => .object "java/util/List"
abbrev wsJ40 : List Cond := u_ws RJ4 TJ4 6
theorem nmJ4 : ∀ a, a < 6 → ∀ b, b < 6 → a ≠ b → (TJ4 a).2.1 ≠ (TJ4 b).2.1 := by decide +kernel
theorem tyJ4_ok : ∀ k, k < 6 → parseFieldDescriptor (TJ4 k).2.2.1 = some (tyJ4 k) := by decide +kernel
abbrev cJ4_init : ByteArray := prog_15_method_2_code
def yJ4_init : MethodName := ⟨RJ4, "<init>", "(Ljava/lang/String;)V"⟩
def dkwJ4_init_0 : List UInt8 := [42, 43, 183, 0, 7, 177]
abbrev dktJ4_init_0 : List UInt8 := dkwJ4_init_0 ++ []
theorem dksJ4_init_0 : cJ4_init.data.toList.drop 0 = dktJ4_init_0 := by decide +kernel
theorem dJ4_init_0 : decode cJ4_init 0 = .ok (.aload_n 0, 1) := dk_42 (dk_at dksJ4_init_0 0 rfl rfl)
theorem dJ4_init_1 : decode cJ4_init 1 = .ok (.aload_n 1, 1) := dk_43 (dk_at dksJ4_init_0 1 rfl rfl)
theorem dJ4_init_2 : decode cJ4_init 2 = .ok (.invokespecial 7, 3) := dk_183 0 7 (dk_at dksJ4_init_0 2 rfl rfl)
theorem dJ4_init_5 : decode cJ4_init 5 = .ok (.return_, 1) := dk_177 (dk_at dksJ4_init_0 5 rfl rfl)
theorem q87 : (Jvm.Cond.initialized "java/lang/ArrayStoreException") ∈ lw_all := lw_g (lw_at lw_m1 16 rfl) rfl
theorem q205 : (Jvm.Cond.selects "java/lang/ArrayStoreException" ({ cls := "java/lang/Throwable", name := "fillInStackTrace", desc := "()Ljava/lang/Throwable;" } : Jvm.MethodName) ({ cls := "java/lang/Throwable", name := "fillInStackTrace", desc := "()Ljava/lang/Throwable;" } : Jvm.MethodName)) ∈ lw_all := lw_g (lw_at lw_m1 134 rfl) rfl
theorem q567 : (Jvm.Cond.instantiable "java/lang/ArrayStoreException" (6 : Nat)) ∈ lw_all := lw_g (lw_at lw_m3 16 rfl) rfl
theorem q568 : (Jvm.Cond.instanceMethod ({ cls := "java/lang/ArrayStoreException", name := "<init>", desc := "(Ljava/lang/String;)V" } : Jvm.MethodName)) ∈ lw_all := lw_g (lw_at lw_m3 17 rfl) rfl
theorem q569 : (Jvm.Cond.code ({ cls := "java/lang/ArrayStoreException", name := "<init>", desc := "(Ljava/lang/String;)V" } : Jvm.MethodName) prog_15_method_2_code (2 : Nat) (Option.none : Option Jvm.ClassFile.FieldType)) ∈ lw_all := lw_g (lw_at lw_m3 18 rfl) rfl
theorem q570 : (Jvm.Cond.methodLink "java/lang/ArrayStoreException" (7 : Nat) ({ cls := "java/lang/RuntimeException", name := "<init>", desc := "(Ljava/lang/String;)V" } : Jvm.MethodName)) ∈ lw_all := lw_g (lw_at lw_m3 19 rfl) rfl
theorem q574 : (Jvm.Cond.lays "java/lang/ArrayStoreException" "java/lang/Throwable" "backtrace" "Ljava/lang/Object;") ∈ lw_all := lw_g (lw_at lw_m3 23 rfl) rfl
theorem q575 : (Jvm.Cond.lays "java/lang/ArrayStoreException" "java/lang/Throwable" "detailMessage" "Ljava/lang/String;") ∈ lw_all := lw_g (lw_at lw_m3 24 rfl) rfl
theorem q576 : (Jvm.Cond.lays "java/lang/ArrayStoreException" "java/lang/Throwable" "cause" "Ljava/lang/Throwable;") ∈ lw_all := lw_g (lw_at lw_m3 25 rfl) rfl
theorem q577 : (Jvm.Cond.lays "java/lang/ArrayStoreException" "java/lang/Throwable" "stackTrace" "[Ljava/lang/StackTraceElement;") ∈ lw_all := lw_g (lw_at lw_m3 26 rfl) rfl
theorem q578 : (Jvm.Cond.lays "java/lang/ArrayStoreException" "java/lang/Throwable" "depth" "I") ∈ lw_all := lw_g (lw_at lw_m3 27 rfl) rfl
theorem q579 : (Jvm.Cond.lays "java/lang/ArrayStoreException" "java/lang/Throwable" "suppressedExceptions" "Ljava/util/List;") ∈ lw_all := lw_g (lw_at lw_m3 28 rfl) rfl
theorem q580 : (Jvm.Cond.superclass "java/lang/ArrayStoreException" "java/lang/RuntimeException") ∈ lw_all := lw_g (lw_at lw_m3 29 rfl) rfl
theorem q581 : (Jvm.Cond.castable "java/lang/ArrayStoreException" "java/lang/ArrayStoreException") ∈ lw_tbl := lw_at lw_m3 30 rfl
theorem q584 : (Jvm.Cond.selects "java/lang/ArrayStoreException" ({ cls := "java/lang/Throwable", name := "fillInStackTrace", desc := "(I)Ljava/lang/Throwable;" } : Jvm.MethodName) ({ cls := "java/lang/Throwable", name := "fillInStackTrace", desc := "(I)Ljava/lang/Throwable;" } : Jvm.MethodName)) ∈ lw_all := lw_g (lw_at lw_m3 33 rfl) rfl
theorem in_J4 : ∀ w ∈ wsJ40, w ∈ lw_all := lw_in wsJ40 [574, 575, 576, 577, 578, 579] (by decide +kernel) (by decide +kernel)
/-! ChainParts$Fault -/
set_option maxRecDepth 100000
def RX3 : String := "ChainParts$Fault"
def TX3 : u_T := fun k => match k with
  | 0 => ("java/lang/Throwable", "cause", "Ljava/lang/Throwable;", false)
  | 1 => ("java/lang/Throwable", "stackTrace", "[Ljava/lang/StackTraceElement;", false)
  | 2 => ("java/lang/Throwable", "suppressedExceptions", "Ljava/util/List;", false)
  | 3 => ("java/lang/Throwable", "detailMessage", "Ljava/lang/String;", false)
  | 4 => ("java/lang/Throwable", "backtrace", "Ljava/lang/Object;", false)
  | 5 => ("java/lang/Throwable", "depth", "I", false)
  | 6 => ("ChainParts$Fault", "kind", "I", true)
  | _ => ("ChainParts$Fault", "place", "I", true)
def tyX3 : Nat → FieldType := fun k => match k with
  | 0 => .object "java/lang/Throwable"
  | 1 => .array (.object "java/lang/StackTraceElement")
  | 2 => .object "java/util/List"
  | 3 => .object "java/lang/String"
  | 4 => .object "java/lang/Object"
  | 5 => .int
  | 6 => .int
  | _ => .int
abbrev wsX30 : List Cond := u_ws RX3 TX3 8
theorem nmX3 : ∀ a, a < 8 → ∀ b, b < 8 → a ≠ b → (TX3 a).2.1 ≠ (TX3 b).2.1 := by decide +kernel
theorem tyX3_ok : ∀ k, k < 8 → parseFieldDescriptor (TX3 k).2.2.1 = some (tyX3 k) := by decide +kernel
abbrev cX3_init : ByteArray := prog_6_method_1_code
def yX3_init : MethodName := ⟨RX3, "<init>", "(II)V"⟩
def dkwX3_init_0 : List UInt8 := [42, 18, 1, 183, 0, 3, 42, 27, 181, 0, 9, 42, 28, 181, 0, 15, 177]
abbrev dktX3_init_0 : List UInt8 := dkwX3_init_0 ++ []
theorem dksX3_init_0 : cX3_init.data.toList.drop 0 = dktX3_init_0 := by decide +kernel
theorem dX3_init_0 : decode cX3_init 0 = .ok (.aload_n 0, 1) := dk_42 (dk_at dksX3_init_0 0 rfl rfl)
theorem dX3_init_1 : decode cX3_init 1 = .ok (.ldc 1, 2) := dk_18 1 (dk_at dksX3_init_0 1 rfl rfl)
theorem dX3_init_3 : decode cX3_init 3 = .ok (.invokespecial 3, 3) := dk_183 0 3 (dk_at dksX3_init_0 3 rfl rfl)
theorem dX3_init_6 : decode cX3_init 6 = .ok (.aload_n 0, 1) := dk_42 (dk_at dksX3_init_0 6 rfl rfl)
theorem dX3_init_7 : decode cX3_init 7 = .ok (.iload_n 1, 1) := dk_27 (dk_at dksX3_init_0 7 rfl rfl)
theorem dX3_init_8 : decode cX3_init 8 = .ok (.putfield 9, 3) := dk_181 0 9 (dk_at dksX3_init_0 8 rfl rfl)
theorem dX3_init_11 : decode cX3_init 11 = .ok (.aload_n 0, 1) := dk_42 (dk_at dksX3_init_0 11 rfl rfl)
theorem dX3_init_12 : decode cX3_init 12 = .ok (.iload_n 2, 1) := dk_28 (dk_at dksX3_init_0 12 rfl rfl)
theorem dX3_init_13 : decode cX3_init 13 = .ok (.putfield 15, 3) := dk_181 0 15 (dk_at dksX3_init_0 13 rfl rfl)
theorem dX3_init_16 : decode cX3_init 16 = .ok (.return_, 1) := dk_177 (dk_at dksX3_init_0 16 rfl rfl)
theorem q77 : (Jvm.Cond.initialized "ChainParts$Fault") ∈ lw_all := lw_g (lw_at lw_m1 6 rfl) rfl
theorem q175 : (Jvm.Cond.instantiable "ChainParts$Fault" (8 : Nat)) ∈ lw_all := lw_g (lw_at lw_m1 104 rfl) rfl
theorem q176 : (Jvm.Cond.castable "ChainParts$Fault" "ChainParts$Fault") ∈ lw_tbl := lw_at lw_m1 105 rfl
theorem q181 : (Jvm.Cond.selects "ChainParts$Fault" ({ cls := "java/lang/Throwable", name := "fillInStackTrace", desc := "(I)Ljava/lang/Throwable;" } : Jvm.MethodName) ({ cls := "java/lang/Throwable", name := "fillInStackTrace", desc := "(I)Ljava/lang/Throwable;" } : Jvm.MethodName)) ∈ lw_all := lw_g (lw_at lw_m1 110 rfl) rfl
theorem q182 : (Jvm.Cond.selects "ChainParts$Fault" ({ cls := "java/lang/Throwable", name := "fillInStackTrace", desc := "()Ljava/lang/Throwable;" } : Jvm.MethodName) ({ cls := "java/lang/Throwable", name := "fillInStackTrace", desc := "()Ljava/lang/Throwable;" } : Jvm.MethodName)) ∈ lw_all := lw_g (lw_at lw_m1 111 rfl) rfl
theorem q183 : (Jvm.Cond.lays "ChainParts$Fault" "java/lang/Throwable" "cause" "Ljava/lang/Throwable;") ∈ lw_all := lw_g (lw_at lw_m1 112 rfl) rfl
theorem q185 : (Jvm.Cond.lays "ChainParts$Fault" "java/lang/Throwable" "stackTrace" "[Ljava/lang/StackTraceElement;") ∈ lw_all := lw_g (lw_at lw_m1 114 rfl) rfl
theorem q187 : (Jvm.Cond.lays "ChainParts$Fault" "java/lang/Throwable" "suppressedExceptions" "Ljava/util/List;") ∈ lw_all := lw_g (lw_at lw_m1 116 rfl) rfl
theorem q189 : (Jvm.Cond.lays "ChainParts$Fault" "java/lang/Throwable" "detailMessage" "Ljava/lang/String;") ∈ lw_all := lw_g (lw_at lw_m1 118 rfl) rfl
theorem q191 : (Jvm.Cond.lays "ChainParts$Fault" "java/lang/Throwable" "backtrace" "Ljava/lang/Object;") ∈ lw_all := lw_g (lw_at lw_m1 120 rfl) rfl
theorem q213 : (Jvm.Cond.instanceMethod ({ cls := "ChainParts$Fault", name := "<init>", desc := "(II)V" } : Jvm.MethodName)) ∈ lw_all := lw_g (lw_at lw_m1 142 rfl) rfl
theorem q214 : (Jvm.Cond.code ({ cls := "ChainParts$Fault", name := "<init>", desc := "(II)V" } : Jvm.MethodName) prog_6_method_1_code (3 : Nat) (Option.none : Option Jvm.ClassFile.FieldType)) ∈ lw_all := lw_g (lw_at lw_m1 143 rfl) rfl
theorem q215 : (Jvm.Cond.stringRef "ChainParts$Fault" (1 : Nat) "fault") ∈ lw_tbl := lw_at lw_m1 144 rfl
theorem q216 : (Jvm.Cond.methodLink "ChainParts$Fault" (3 : Nat) ({ cls := "java/lang/Exception", name := "<init>", desc := "(Ljava/lang/String;)V" } : Jvm.MethodName)) ∈ lw_all := lw_g (lw_at lw_m1 145 rfl) rfl
theorem q222 : (Jvm.Cond.fieldLink "ChainParts$Fault" (9 : Nat) "ChainParts$Fault" "kind" "I") ∈ lw_all := lw_g (lw_at lw_m1 151 rfl) rfl
theorem q224 : (Jvm.Cond.fieldLink "ChainParts$Fault" (15 : Nat) "ChainParts$Fault" "place" "I") ∈ lw_all := lw_g (lw_at lw_m1 153 rfl) rfl
theorem q231 : (Jvm.Cond.laysFinal "ChainParts$Fault" "ChainParts$Fault" "kind" "I") ∈ lw_all := lw_g (lw_at lw_m1 160 rfl) rfl
theorem q232 : (Jvm.Cond.soleField "ChainParts$Fault" "kind") ∈ lw_all := lw_g (lw_at lw_m1 161 rfl) rfl
theorem q233 : (Jvm.Cond.laysFinal "ChainParts$Fault" "ChainParts$Fault" "place" "I") ∈ lw_all := lw_g (lw_at lw_m1 162 rfl) rfl
theorem q234 : (Jvm.Cond.soleField "ChainParts$Fault" "place") ∈ lw_all := lw_g (lw_at lw_m1 163 rfl) rfl
theorem q239 : (Jvm.Cond.lays "ChainParts$Fault" "java/lang/Throwable" "depth" "I") ∈ lw_all := lw_g (lw_at lw_m1 168 rfl) rfl
theorem q242 : (Jvm.Cond.superclass "ChainParts$Fault" "java/lang/Exception") ∈ lw_all := lw_g (lw_at lw_m1 171 rfl) rfl
theorem in_X3 : ∀ w ∈ wsX30, w ∈ lw_all := lw_in wsX30 [183, 185, 187, 189, 191, 239, 231, 233] (by decide +kernel) (by decide +kernel)
/-! ChainParts$Cell -/
set_option maxRecDepth 100000
def RX4 : String := "ChainParts$Cell"
abbrev cX4_init : ByteArray := prog_2_method_1_code
def yX4_init : MethodName := ⟨RX4, "<init>", "()V"⟩
theorem dX4_init_0 : decode cX4_init 0 = .ok (.aload_n 0, 1) := by decide +kernel
theorem dX4_init_1 : decode cX4_init 1 = .ok (.invokespecial 1, 3) := by decide +kernel
theorem dX4_init_4 : decode cX4_init 4 = .ok (.return_, 1) := by decide +kernel
theorem q78 : (Jvm.Cond.initialized "ChainParts$Cell") ∈ lw_all := lw_g (lw_at lw_m1 7 rfl) rfl
theorem q276 : (Jvm.Cond.instanceMethod ({ cls := "ChainParts$Cell", name := "<init>", desc := "()V" } : Jvm.MethodName)) ∈ lw_all := lw_g (lw_at lw_m1 205 rfl) rfl
theorem q277 : (Jvm.Cond.code ({ cls := "ChainParts$Cell", name := "<init>", desc := "()V" } : Jvm.MethodName) prog_2_method_1_code (1 : Nat) (Option.none : Option Jvm.ClassFile.FieldType)) ∈ lw_all := lw_g (lw_at lw_m1 206 rfl) rfl
theorem q278 : (Jvm.Cond.methodLink "ChainParts$Cell" (1 : Nat) ({ cls := "java/lang/Object", name := "<init>", desc := "()V" } : Jvm.MethodName)) ∈ lw_all := lw_g (lw_at lw_m1 207 rfl) rfl
/-! ChainParts$EdgeCell -/
set_option maxRecDepth 100000
def RX5 : String := "ChainParts$EdgeCell"
def TX5 : u_T := fun k => match k with
  | 0 => ("ChainParts$EdgeCell", "from", "I", true)
  | 1 => ("ChainParts$EdgeCell", "to", "I", true)
  | _ => ("ChainParts$EdgeCell", "weight", "I", true)
def tyX5 : Nat → FieldType := fun k => match k with
  | 0 => .int
  | 1 => .int
  | _ => .int
abbrev wsX50 : List Cond := u_ws RX5 TX5 3
theorem nmX5 : ∀ a, a < 3 → ∀ b, b < 3 → a ≠ b → (TX5 a).2.1 ≠ (TX5 b).2.1 := by decide +kernel
theorem tyX5_ok : ∀ k, k < 3 → parseFieldDescriptor (TX5 k).2.2.1 = some (tyX5 k) := by decide +kernel
abbrev cX5_init : ByteArray := prog_4_method_1_code
def yX5_init : MethodName := ⟨RX5, "<init>", "(III)V"⟩
def dkwX5_init_0 : List UInt8 := [42, 183, 0, 3, 42, 27, 181, 0, 9, 42, 28, 181, 0, 15, 42, 29, 181, 0, 18, 177]
abbrev dktX5_init_0 : List UInt8 := dkwX5_init_0 ++ []
theorem dksX5_init_0 : cX5_init.data.toList.drop 0 = dktX5_init_0 := by decide +kernel
theorem dX5_init_0 : decode cX5_init 0 = .ok (.aload_n 0, 1) := dk_42 (dk_at dksX5_init_0 0 rfl rfl)
theorem dX5_init_1 : decode cX5_init 1 = .ok (.invokespecial 3, 3) := dk_183 0 3 (dk_at dksX5_init_0 1 rfl rfl)
theorem dX5_init_4 : decode cX5_init 4 = .ok (.aload_n 0, 1) := dk_42 (dk_at dksX5_init_0 4 rfl rfl)
theorem dX5_init_5 : decode cX5_init 5 = .ok (.iload_n 1, 1) := dk_27 (dk_at dksX5_init_0 5 rfl rfl)
theorem dX5_init_6 : decode cX5_init 6 = .ok (.putfield 9, 3) := dk_181 0 9 (dk_at dksX5_init_0 6 rfl rfl)
theorem dX5_init_9 : decode cX5_init 9 = .ok (.aload_n 0, 1) := dk_42 (dk_at dksX5_init_0 9 rfl rfl)
theorem dX5_init_10 : decode cX5_init 10 = .ok (.iload_n 2, 1) := dk_28 (dk_at dksX5_init_0 10 rfl rfl)
theorem dX5_init_11 : decode cX5_init 11 = .ok (.putfield 15, 3) := dk_181 0 15 (dk_at dksX5_init_0 11 rfl rfl)
theorem dX5_init_14 : decode cX5_init 14 = .ok (.aload_n 0, 1) := dk_42 (dk_at dksX5_init_0 14 rfl rfl)
theorem dX5_init_15 : decode cX5_init 15 = .ok (.iload_n 3, 1) := dk_29 (dk_at dksX5_init_0 15 rfl rfl)
theorem dX5_init_16 : decode cX5_init 16 = .ok (.putfield 18, 3) := dk_181 0 18 (dk_at dksX5_init_0 16 rfl rfl)
theorem dX5_init_19 : decode cX5_init 19 = .ok (.return_, 1) := dk_177 (dk_at dksX5_init_0 19 rfl rfl)
abbrev cX5_with : ByteArray := prog_4_method_3_code
def yX5_with : MethodName := ⟨RX5, "with", "(I)LChainParts$EdgeCell;"⟩
def dkwX5_with_0 : List UInt8 := [187, 0, 10, 89, 42, 180, 0, 9, 42, 180, 0, 15, 27, 183, 0, 22, 176]
abbrev dktX5_with_0 : List UInt8 := dkwX5_with_0 ++ []
theorem dksX5_with_0 : cX5_with.data.toList.drop 0 = dktX5_with_0 := by decide +kernel
theorem dX5_with_0 : decode cX5_with 0 = .ok (.new 10, 3) := dk_187 0 10 (dk_at dksX5_with_0 0 rfl rfl)
theorem dX5_with_3 : decode cX5_with 3 = .ok (.dup, 1) := dk_89 (dk_at dksX5_with_0 3 rfl rfl)
theorem dX5_with_4 : decode cX5_with 4 = .ok (.aload_n 0, 1) := dk_42 (dk_at dksX5_with_0 4 rfl rfl)
theorem dX5_with_5 : decode cX5_with 5 = .ok (.getfield 9, 3) := dk_180 0 9 (dk_at dksX5_with_0 5 rfl rfl)
theorem dX5_with_8 : decode cX5_with 8 = .ok (.aload_n 0, 1) := dk_42 (dk_at dksX5_with_0 8 rfl rfl)
theorem dX5_with_9 : decode cX5_with 9 = .ok (.getfield 15, 3) := dk_180 0 15 (dk_at dksX5_with_0 9 rfl rfl)
theorem dX5_with_12 : decode cX5_with 12 = .ok (.iload_n 1, 1) := dk_27 (dk_at dksX5_with_0 12 rfl rfl)
theorem dX5_with_13 : decode cX5_with 13 = .ok (.invokespecial 22, 3) := dk_183 0 22 (dk_at dksX5_with_0 13 rfl rfl)
theorem dX5_with_16 : decode cX5_with 16 = .ok (.areturn, 1) := dk_176 (dk_at dksX5_with_0 16 rfl rfl)
abbrev cX5_told : ByteArray := prog_4_method_2_code
def yX5_told : MethodName := ⟨RX5, "told", "(I)I"⟩
def dkwX5_told_1 : List UInt8 := [5, 160, 0, 10, 42, 180, 0, 15, 167, 0, 5, 18, 21, 172]
abbrev dktX5_told_1 : List UInt8 := dkwX5_told_1 ++ []
def dkwX5_told_0 : List UInt8 := [27, 154, 0, 10, 42, 180, 0, 18, 167, 0, 29, 27, 4, 160, 0, 10, 42, 180, 0, 9, 167, 0, 17, 27]
abbrev dktX5_told_0 : List UInt8 := dkwX5_told_0 ++ dktX5_told_1
theorem dksX5_told_0 : cX5_told.data.toList.drop 0 = dktX5_told_0 := by decide +kernel
theorem dksX5_told_1 : cX5_told.data.toList.drop 24 = dktX5_told_1 := dk_seg dksX5_told_0 24 rfl rfl
theorem dX5_told_0 : decode cX5_told 0 = .ok (.iload_n 1, 1) := dk_27 (dk_at dksX5_told_0 0 rfl rfl)
theorem dX5_told_1 : decode cX5_told 1 = .ok (.ifCond .ne 10, 3) := dk_154 0 10 (dk_at dksX5_told_0 1 rfl rfl)
theorem dX5_told_4 : decode cX5_told 4 = .ok (.aload_n 0, 1) := dk_42 (dk_at dksX5_told_0 4 rfl rfl)
theorem dX5_told_5 : decode cX5_told 5 = .ok (.getfield 18, 3) := dk_180 0 18 (dk_at dksX5_told_0 5 rfl rfl)
theorem dX5_told_8 : decode cX5_told 8 = .ok (.goto 29, 3) := dk_167 0 29 (dk_at dksX5_told_0 8 rfl rfl)
theorem dX5_told_11 : decode cX5_told 11 = .ok (.iload_n 1, 1) := dk_27 (dk_at dksX5_told_0 11 rfl rfl)
theorem dX5_told_12 : decode cX5_told 12 = .ok (.iconst 1, 1) := dk_4 (dk_at dksX5_told_0 12 rfl rfl)
theorem dX5_told_13 : decode cX5_told 13 = .ok (.if_icmp .ne 10, 3) := dk_160 0 10 (dk_at dksX5_told_0 13 rfl rfl)
theorem dX5_told_16 : decode cX5_told 16 = .ok (.aload_n 0, 1) := dk_42 (dk_at dksX5_told_0 16 rfl rfl)
theorem dX5_told_17 : decode cX5_told 17 = .ok (.getfield 9, 3) := dk_180 0 9 (dk_at dksX5_told_0 17 rfl rfl)
theorem dX5_told_20 : decode cX5_told 20 = .ok (.goto 17, 3) := dk_167 0 17 (dk_at dksX5_told_0 20 rfl rfl)
theorem dX5_told_23 : decode cX5_told 23 = .ok (.iload_n 1, 1) := dk_27 (dk_at dksX5_told_0 23 rfl rfl)
theorem dX5_told_24 : decode cX5_told 24 = .ok (.iconst 2, 1) := dk_5 (dk_at dksX5_told_1 0 rfl rfl)
theorem dX5_told_25 : decode cX5_told 25 = .ok (.if_icmp .ne 10, 3) := dk_160 0 10 (dk_at dksX5_told_1 1 rfl rfl)
theorem dX5_told_28 : decode cX5_told 28 = .ok (.aload_n 0, 1) := dk_42 (dk_at dksX5_told_1 4 rfl rfl)
theorem dX5_told_29 : decode cX5_told 29 = .ok (.getfield 15, 3) := dk_180 0 15 (dk_at dksX5_told_1 5 rfl rfl)
theorem dX5_told_32 : decode cX5_told 32 = .ok (.goto 5, 3) := dk_167 0 5 (dk_at dksX5_told_1 8 rfl rfl)
theorem dX5_told_35 : decode cX5_told 35 = .ok (.ldc 21, 2) := dk_18 21 (dk_at dksX5_told_1 11 rfl rfl)
theorem dX5_told_37 : decode cX5_told 37 = .ok (.ireturn, 1) := dk_172 (dk_at dksX5_told_1 13 rfl rfl)
theorem q79 : (Jvm.Cond.initialized "ChainParts$EdgeCell") ∈ lw_all := lw_g (lw_at lw_m1 8 rfl) rfl
theorem q273 : (Jvm.Cond.instanceMethod ({ cls := "ChainParts$EdgeCell", name := "<init>", desc := "(III)V" } : Jvm.MethodName)) ∈ lw_all := lw_g (lw_at lw_m1 202 rfl) rfl
theorem q274 : (Jvm.Cond.code ({ cls := "ChainParts$EdgeCell", name := "<init>", desc := "(III)V" } : Jvm.MethodName) prog_4_method_1_code (4 : Nat) (Option.none : Option Jvm.ClassFile.FieldType)) ∈ lw_all := lw_g (lw_at lw_m1 203 rfl) rfl
theorem q275 : (Jvm.Cond.methodLinkNest "ChainParts$EdgeCell" (3 : Nat) ({ cls := "ChainParts$Cell", name := "<init>", desc := "()V" } : Jvm.MethodName) "ChainParts") ∈ lw_tbl := lw_at lw_m1 204 rfl
theorem q279 : (Jvm.Cond.fieldLink "ChainParts$EdgeCell" (9 : Nat) "ChainParts$EdgeCell" "from" "I") ∈ lw_all := lw_g (lw_at lw_m1 208 rfl) rfl
theorem q285 : (Jvm.Cond.fieldLink "ChainParts$EdgeCell" (15 : Nat) "ChainParts$EdgeCell" "to" "I") ∈ lw_all := lw_g (lw_at lw_m1 214 rfl) rfl
theorem q289 : (Jvm.Cond.fieldLink "ChainParts$EdgeCell" (18 : Nat) "ChainParts$EdgeCell" "weight" "I") ∈ lw_all := lw_g (lw_at lw_m1 218 rfl) rfl
theorem q293 : (Jvm.Cond.soleField "ChainParts$EdgeCell" "from") ∈ lw_all := lw_g (lw_at lw_m1 222 rfl) rfl
theorem q295 : (Jvm.Cond.soleField "ChainParts$EdgeCell" "to") ∈ lw_all := lw_g (lw_at lw_m1 224 rfl) rfl
theorem q297 : (Jvm.Cond.soleField "ChainParts$EdgeCell" "weight") ∈ lw_all := lw_g (lw_at lw_m1 226 rfl) rfl
theorem q300 : (Jvm.Cond.instantiable "ChainParts$EdgeCell" (3 : Nat)) ∈ lw_all := lw_g (lw_at lw_m1 229 rfl) rfl
theorem q302 : (Jvm.Cond.laysFinal "ChainParts$EdgeCell" "ChainParts$EdgeCell" "from" "I") ∈ lw_all := lw_g (lw_at lw_m1 231 rfl) rfl
theorem q303 : (Jvm.Cond.laysFinal "ChainParts$EdgeCell" "ChainParts$EdgeCell" "to" "I") ∈ lw_all := lw_g (lw_at lw_m1 232 rfl) rfl
theorem q304 : (Jvm.Cond.laysFinal "ChainParts$EdgeCell" "ChainParts$EdgeCell" "weight" "I") ∈ lw_all := lw_g (lw_at lw_m1 233 rfl) rfl
theorem q305 : (Jvm.Cond.superclass "ChainParts$EdgeCell" "ChainParts$Cell") ∈ lw_all := lw_g (lw_at lw_m1 234 rfl) rfl
theorem q408 : (Jvm.Cond.instanceMethod ({ cls := "ChainParts$EdgeCell", name := "with", desc := "(I)LChainParts$EdgeCell;" } : Jvm.MethodName)) ∈ lw_all := lw_g (lw_at lw_m2 97 rfl) rfl
theorem q409 : (Jvm.Cond.selects "ChainParts$EdgeCell" ({ cls := "ChainParts$EdgeCell", name := "with", desc := "(I)LChainParts$EdgeCell;" } : Jvm.MethodName) ({ cls := "ChainParts$EdgeCell", name := "with", desc := "(I)LChainParts$EdgeCell;" } : Jvm.MethodName)) ∈ lw_all := lw_g (lw_at lw_m2 98 rfl) rfl
theorem q410 : (Jvm.Cond.sameMethod "ChainParts$EdgeCell" "ChainParts$EdgeCell" "with" "(I)LChainParts$EdgeCell;") ∈ lw_all := lw_g (lw_at lw_m2 99 rfl) rfl
theorem q416 : (Jvm.Cond.code ({ cls := "ChainParts$EdgeCell", name := "with", desc := "(I)LChainParts$EdgeCell;" } : Jvm.MethodName) prog_4_method_3_code (2 : Nat) (Option.some (Jvm.ClassFile.FieldType.object "ChainParts$EdgeCell"))) ∈ lw_all := lw_g (lw_at lw_m2 105 rfl) rfl
theorem q417 : (Jvm.Cond.classLink "ChainParts$EdgeCell" (10 : Nat) "ChainParts$EdgeCell") ∈ lw_all := lw_g (lw_at lw_m2 106 rfl) rfl
theorem q418 : (Jvm.Cond.methodLink "ChainParts$EdgeCell" (22 : Nat) ({ cls := "ChainParts$EdgeCell", name := "<init>", desc := "(III)V" } : Jvm.MethodName)) ∈ lw_all := lw_g (lw_at lw_m2 107 rfl) rfl
theorem q543 : (Jvm.Cond.instanceMethod ({ cls := "ChainParts$EdgeCell", name := "told", desc := "(I)I" } : Jvm.MethodName)) ∈ lw_all := lw_g (lw_at lw_m2 232 rfl) rfl
theorem q544 : (Jvm.Cond.selects "ChainParts$EdgeCell" ({ cls := "ChainParts$EdgeCell", name := "told", desc := "(I)I" } : Jvm.MethodName) ({ cls := "ChainParts$EdgeCell", name := "told", desc := "(I)I" } : Jvm.MethodName)) ∈ lw_all := lw_g (lw_at lw_m2 233 rfl) rfl
theorem q545 : (Jvm.Cond.sameMethod "ChainParts$EdgeCell" "ChainParts$EdgeCell" "told" "(I)I") ∈ lw_all := lw_g (lw_at lw_m2 234 rfl) rfl
theorem q547 : (Jvm.Cond.code ({ cls := "ChainParts$EdgeCell", name := "told", desc := "(I)I" } : Jvm.MethodName) prog_4_method_2_code (2 : Nat) (Option.some Jvm.ClassFile.FieldType.int)) ∈ lw_all := lw_g (lw_at lw_m2 236 rfl) rfl
theorem q548 : (Jvm.Cond.constant "ChainParts$EdgeCell" (21 : Nat) (-1000001 : Int32)) ∈ lw_all := lw_g (lw_at lw_m2 237 rfl) rfl
theorem q1427 : (Jvm.Cond.castable "ChainParts$EdgeCell" "ChainParts$Cell") ∈ lw_tbl := lw_at lw_m6 156 rfl
theorem in_X5 : ∀ w ∈ wsX50, w ∈ lw_all := lw_in wsX50 [302, 303, 304] (by decide +kernel) (by decide +kernel)
/-! ChainParts$LoopCell -/
set_option maxRecDepth 100000
def RX6 : String := "ChainParts$LoopCell"
def TX6 : u_T := fun k => match k with
  | 0 => ("ChainParts$EdgeCell", "from", "I", true)
  | 1 => ("ChainParts$EdgeCell", "to", "I", true)
  | _ => ("ChainParts$EdgeCell", "weight", "I", true)
def tyX6 : Nat → FieldType := fun k => match k with
  | 0 => .int
  | 1 => .int
  | _ => .int
abbrev wsX60 : List Cond := u_ws RX6 TX6 3
theorem nmX6 : ∀ a, a < 3 → ∀ b, b < 3 → a ≠ b → (TX6 a).2.1 ≠ (TX6 b).2.1 := by decide +kernel
theorem tyX6_ok : ∀ k, k < 3 → parseFieldDescriptor (TX6 k).2.2.1 = some (tyX6 k) := by decide +kernel
abbrev cX6_init : ByteArray := prog_8_method_1_code
def yX6_init : MethodName := ⟨RX6, "<init>", "(II)V"⟩
def dkwX6_init_0 : List UInt8 := [42, 27, 27, 28, 183, 0, 1, 177]
abbrev dktX6_init_0 : List UInt8 := dkwX6_init_0 ++ []
theorem dksX6_init_0 : cX6_init.data.toList.drop 0 = dktX6_init_0 := by decide +kernel
theorem dX6_init_0 : decode cX6_init 0 = .ok (.aload_n 0, 1) := dk_42 (dk_at dksX6_init_0 0 rfl rfl)
theorem dX6_init_1 : decode cX6_init 1 = .ok (.iload_n 1, 1) := dk_27 (dk_at dksX6_init_0 1 rfl rfl)
theorem dX6_init_2 : decode cX6_init 2 = .ok (.iload_n 1, 1) := dk_27 (dk_at dksX6_init_0 2 rfl rfl)
theorem dX6_init_3 : decode cX6_init 3 = .ok (.iload_n 2, 1) := dk_28 (dk_at dksX6_init_0 3 rfl rfl)
theorem dX6_init_4 : decode cX6_init 4 = .ok (.invokespecial 1, 3) := dk_183 0 1 (dk_at dksX6_init_0 4 rfl rfl)
theorem dX6_init_7 : decode cX6_init 7 = .ok (.return_, 1) := dk_177 (dk_at dksX6_init_0 7 rfl rfl)
abbrev cX6_with : ByteArray := prog_8_method_2_code
def yX6_with : MethodName := ⟨RX6, "with", "(I)LChainParts$EdgeCell;"⟩
def dkwX6_with_0 : List UInt8 := [187, 0, 7, 89, 42, 180, 0, 9, 27, 183, 0, 13, 176]
abbrev dktX6_with_0 : List UInt8 := dkwX6_with_0 ++ []
theorem dksX6_with_0 : cX6_with.data.toList.drop 0 = dktX6_with_0 := by decide +kernel
theorem dX6_with_0 : decode cX6_with 0 = .ok (.new 7, 3) := dk_187 0 7 (dk_at dksX6_with_0 0 rfl rfl)
theorem dX6_with_3 : decode cX6_with 3 = .ok (.dup, 1) := dk_89 (dk_at dksX6_with_0 3 rfl rfl)
theorem dX6_with_4 : decode cX6_with 4 = .ok (.aload_n 0, 1) := dk_42 (dk_at dksX6_with_0 4 rfl rfl)
theorem dX6_with_5 : decode cX6_with 5 = .ok (.getfield 9, 3) := dk_180 0 9 (dk_at dksX6_with_0 5 rfl rfl)
theorem dX6_with_8 : decode cX6_with 8 = .ok (.iload_n 1, 1) := dk_27 (dk_at dksX6_with_0 8 rfl rfl)
theorem dX6_with_9 : decode cX6_with 9 = .ok (.invokespecial 13, 3) := dk_183 0 13 (dk_at dksX6_with_0 9 rfl rfl)
theorem dX6_with_12 : decode cX6_with 12 = .ok (.areturn, 1) := dk_176 (dk_at dksX6_with_0 12 rfl rfl)
theorem q80 : (Jvm.Cond.initialized "ChainParts$LoopCell") ∈ lw_all := lw_g (lw_at lw_m1 9 rfl) rfl
theorem q268 : (Jvm.Cond.instantiable "ChainParts$LoopCell" (3 : Nat)) ∈ lw_all := lw_g (lw_at lw_m1 197 rfl) rfl
theorem q270 : (Jvm.Cond.instanceMethod ({ cls := "ChainParts$LoopCell", name := "<init>", desc := "(II)V" } : Jvm.MethodName)) ∈ lw_all := lw_g (lw_at lw_m1 199 rfl) rfl
theorem q271 : (Jvm.Cond.code ({ cls := "ChainParts$LoopCell", name := "<init>", desc := "(II)V" } : Jvm.MethodName) prog_8_method_1_code (3 : Nat) (Option.none : Option Jvm.ClassFile.FieldType)) ∈ lw_all := lw_g (lw_at lw_m1 200 rfl) rfl
theorem q272 : (Jvm.Cond.methodLink "ChainParts$LoopCell" (1 : Nat) ({ cls := "ChainParts$EdgeCell", name := "<init>", desc := "(III)V" } : Jvm.MethodName)) ∈ lw_all := lw_g (lw_at lw_m1 201 rfl) rfl
theorem q280 : (Jvm.Cond.fieldLink "ChainParts$LoopCell" (9 : Nat) "ChainParts$LoopCell" "from" "I") ∈ lw_all := lw_g (lw_at lw_m1 209 rfl) rfl
theorem q281 : (Jvm.Cond.sameField "ChainParts$LoopCell" "ChainParts$EdgeCell" "from" "I") ∈ lw_all := lw_g (lw_at lw_m1 210 rfl) rfl
theorem q292 : (Jvm.Cond.laysFinal "ChainParts$LoopCell" "ChainParts$EdgeCell" "from" "I") ∈ lw_all := lw_g (lw_at lw_m1 221 rfl) rfl
theorem q294 : (Jvm.Cond.laysFinal "ChainParts$LoopCell" "ChainParts$EdgeCell" "to" "I") ∈ lw_all := lw_g (lw_at lw_m1 223 rfl) rfl
theorem q296 : (Jvm.Cond.laysFinal "ChainParts$LoopCell" "ChainParts$EdgeCell" "weight" "I") ∈ lw_all := lw_g (lw_at lw_m1 225 rfl) rfl
theorem q298 : (Jvm.Cond.superclass "ChainParts$LoopCell" "ChainParts$EdgeCell") ∈ lw_all := lw_g (lw_at lw_m1 227 rfl) rfl
theorem q411 : (Jvm.Cond.selects "ChainParts$LoopCell" ({ cls := "ChainParts$EdgeCell", name := "with", desc := "(I)LChainParts$EdgeCell;" } : Jvm.MethodName) ({ cls := "ChainParts$LoopCell", name := "with", desc := "(I)LChainParts$EdgeCell;" } : Jvm.MethodName)) ∈ lw_all := lw_g (lw_at lw_m2 100 rfl) rfl
theorem q412 : (Jvm.Cond.instanceMethod ({ cls := "ChainParts$LoopCell", name := "with", desc := "(I)LChainParts$EdgeCell;" } : Jvm.MethodName)) ∈ lw_all := lw_g (lw_at lw_m2 101 rfl) rfl
theorem q413 : (Jvm.Cond.code ({ cls := "ChainParts$LoopCell", name := "with", desc := "(I)LChainParts$EdgeCell;" } : Jvm.MethodName) prog_8_method_2_code (2 : Nat) (Option.some (Jvm.ClassFile.FieldType.object "ChainParts$EdgeCell"))) ∈ lw_all := lw_g (lw_at lw_m2 102 rfl) rfl
theorem q414 : (Jvm.Cond.classLink "ChainParts$LoopCell" (7 : Nat) "ChainParts$LoopCell") ∈ lw_all := lw_g (lw_at lw_m2 103 rfl) rfl
theorem q415 : (Jvm.Cond.methodLink "ChainParts$LoopCell" (13 : Nat) ({ cls := "ChainParts$LoopCell", name := "<init>", desc := "(II)V" } : Jvm.MethodName)) ∈ lw_all := lw_g (lw_at lw_m2 104 rfl) rfl
theorem q546 : (Jvm.Cond.selects "ChainParts$LoopCell" ({ cls := "ChainParts$EdgeCell", name := "told", desc := "(I)I" } : Jvm.MethodName) ({ cls := "ChainParts$EdgeCell", name := "told", desc := "(I)I" } : Jvm.MethodName)) ∈ lw_all := lw_g (lw_at lw_m2 235 rfl) rfl
theorem q1424 : (Jvm.Cond.castable "ChainParts$LoopCell" "ChainParts$EdgeCell") ∈ lw_tbl := lw_at lw_m6 153 rfl
theorem q1426 : (Jvm.Cond.castable "ChainParts$LoopCell" "ChainParts$Cell") ∈ lw_tbl := lw_at lw_m6 155 rfl
theorem in_X6 : ∀ w ∈ wsX60, w ∈ lw_all := lw_in wsX60 [292, 294, 296] (by decide +kernel) (by decide +kernel)
/-! ChainParts$FaceCell -/
set_option maxRecDepth 100000
def RX7 : String := "ChainParts$FaceCell"
def TX7 : u_T := fun k => match k with
  | 0 => ("ChainParts$FaceCell", "word", "[I", true)
  | _ => ("ChainParts$FaceCell", "weight", "I", true)
def tyX7 : Nat → FieldType := fun k => match k with
  | 0 => .array .int
  | _ => .int
abbrev wsX70 : List Cond := u_ws RX7 TX7 2
theorem nmX7 : ∀ a, a < 2 → ∀ b, b < 2 → a ≠ b → (TX7 a).2.1 ≠ (TX7 b).2.1 := by decide +kernel
theorem tyX7_ok : ∀ k, k < 2 → parseFieldDescriptor (TX7 k).2.2.1 = some (tyX7 k) := by decide +kernel
abbrev cX7_init : ByteArray := prog_5_method_1_code
def yX7_init : MethodName := ⟨RX7, "<init>", "([II)V"⟩
def dkwX7_init_0 : List UInt8 := [42, 183, 0, 3, 42, 43, 181, 0, 9, 42, 28, 181, 0, 15, 177]
abbrev dktX7_init_0 : List UInt8 := dkwX7_init_0 ++ []
theorem dksX7_init_0 : cX7_init.data.toList.drop 0 = dktX7_init_0 := by decide +kernel
theorem dX7_init_0 : decode cX7_init 0 = .ok (.aload_n 0, 1) := dk_42 (dk_at dksX7_init_0 0 rfl rfl)
theorem dX7_init_1 : decode cX7_init 1 = .ok (.invokespecial 3, 3) := dk_183 0 3 (dk_at dksX7_init_0 1 rfl rfl)
theorem dX7_init_4 : decode cX7_init 4 = .ok (.aload_n 0, 1) := dk_42 (dk_at dksX7_init_0 4 rfl rfl)
theorem dX7_init_5 : decode cX7_init 5 = .ok (.aload_n 1, 1) := dk_43 (dk_at dksX7_init_0 5 rfl rfl)
theorem dX7_init_6 : decode cX7_init 6 = .ok (.putfield 9, 3) := dk_181 0 9 (dk_at dksX7_init_0 6 rfl rfl)
theorem dX7_init_9 : decode cX7_init 9 = .ok (.aload_n 0, 1) := dk_42 (dk_at dksX7_init_0 9 rfl rfl)
theorem dX7_init_10 : decode cX7_init 10 = .ok (.iload_n 2, 1) := dk_28 (dk_at dksX7_init_0 10 rfl rfl)
theorem dX7_init_11 : decode cX7_init 11 = .ok (.putfield 15, 3) := dk_181 0 15 (dk_at dksX7_init_0 11 rfl rfl)
theorem dX7_init_14 : decode cX7_init 14 = .ok (.return_, 1) := dk_177 (dk_at dksX7_init_0 14 rfl rfl)
abbrev cX7_often : ByteArray := prog_5_method_3_code
def yX7_often : MethodName := ⟨RX7, "often", "(I)I"⟩
def dkwX7_often_2 : List UInt8 := [167, 0, 4, 3, 96, 61, 132, 5, 1, 167, 255, 214, 28, 172]
abbrev dktX7_often_2 : List UInt8 := dkwX7_often_2 ++ []
def dkwX7_often_1 : List UInt8 := [46, 54, 6, 28, 21, 6, 27, 160, 0, 7, 4, 167, 0, 16, 21, 6, 2, 27, 100, 160, 0, 7, 2]
abbrev dktX7_often_1 : List UInt8 := dkwX7_often_1 ++ dktX7_often_2
def dkwX7_often_0 : List UInt8 := [3, 61, 42, 180, 0, 9, 78, 45, 190, 54, 4, 3, 54, 5, 21, 5, 21, 4, 162, 0, 41, 45, 21, 5]
abbrev dktX7_often_0 : List UInt8 := dkwX7_often_0 ++ dktX7_often_1
theorem dksX7_often_0 : cX7_often.data.toList.drop 0 = dktX7_often_0 := by decide +kernel
theorem dksX7_often_1 : cX7_often.data.toList.drop 24 = dktX7_often_1 := dk_seg dksX7_often_0 24 rfl rfl
theorem dksX7_often_2 : cX7_often.data.toList.drop 47 = dktX7_often_2 := dk_seg dksX7_often_1 23 rfl rfl
theorem dX7_often_0 : decode cX7_often 0 = .ok (.iconst 0, 1) := dk_3 (dk_at dksX7_often_0 0 rfl rfl)
theorem dX7_often_1 : decode cX7_often 1 = .ok (.istore_n 2, 1) := dk_61 (dk_at dksX7_often_0 1 rfl rfl)
theorem dX7_often_2 : decode cX7_often 2 = .ok (.aload_n 0, 1) := dk_42 (dk_at dksX7_often_0 2 rfl rfl)
theorem dX7_often_3 : decode cX7_often 3 = .ok (.getfield 9, 3) := dk_180 0 9 (dk_at dksX7_often_0 3 rfl rfl)
theorem dX7_often_6 : decode cX7_often 6 = .ok (.astore_n 3, 1) := dk_78 (dk_at dksX7_often_0 6 rfl rfl)
theorem dX7_often_7 : decode cX7_often 7 = .ok (.aload_n 3, 1) := dk_45 (dk_at dksX7_often_0 7 rfl rfl)
theorem dX7_often_8 : decode cX7_often 8 = .ok (.arraylength, 1) := dk_190 (dk_at dksX7_often_0 8 rfl rfl)
theorem dX7_often_9 : decode cX7_often 9 = .ok (.istore 4, 2) := dk_54 4 (dk_at dksX7_often_0 9 rfl rfl)
theorem dX7_often_11 : decode cX7_often 11 = .ok (.iconst 0, 1) := dk_3 (dk_at dksX7_often_0 11 rfl rfl)
theorem dX7_often_12 : decode cX7_often 12 = .ok (.istore 5, 2) := dk_54 5 (dk_at dksX7_often_0 12 rfl rfl)
theorem dX7_often_14 : decode cX7_often 14 = .ok (.iload 5, 2) := dk_21 5 (dk_at dksX7_often_0 14 rfl rfl)
theorem dX7_often_16 : decode cX7_often 16 = .ok (.iload 4, 2) := dk_21 4 (dk_at dksX7_often_0 16 rfl rfl)
theorem dX7_often_18 : decode cX7_often 18 = .ok (.if_icmp .ge 41, 3) := dk_162 0 41 (dk_at dksX7_often_0 18 rfl rfl)
theorem dX7_often_21 : decode cX7_often 21 = .ok (.aload_n 3, 1) := dk_45 (dk_at dksX7_often_0 21 rfl rfl)
theorem dX7_often_22 : decode cX7_often 22 = .ok (.iload 5, 2) := dk_21 5 (dk_at dksX7_often_0 22 rfl rfl)
theorem dX7_often_24 : decode cX7_often 24 = .ok (.iaload, 1) := dk_46 (dk_at dksX7_often_1 0 rfl rfl)
theorem dX7_often_25 : decode cX7_often 25 = .ok (.istore 6, 2) := dk_54 6 (dk_at dksX7_often_1 1 rfl rfl)
theorem dX7_often_27 : decode cX7_often 27 = .ok (.iload_n 2, 1) := dk_28 (dk_at dksX7_often_1 3 rfl rfl)
theorem dX7_often_28 : decode cX7_often 28 = .ok (.iload 6, 2) := dk_21 6 (dk_at dksX7_often_1 4 rfl rfl)
theorem dX7_often_30 : decode cX7_often 30 = .ok (.iload_n 1, 1) := dk_27 (dk_at dksX7_often_1 6 rfl rfl)
theorem dX7_often_31 : decode cX7_often 31 = .ok (.if_icmp .ne 7, 3) := dk_160 0 7 (dk_at dksX7_often_1 7 rfl rfl)
theorem dX7_often_34 : decode cX7_often 34 = .ok (.iconst 1, 1) := dk_4 (dk_at dksX7_often_1 10 rfl rfl)
theorem dX7_often_35 : decode cX7_often 35 = .ok (.goto 16, 3) := dk_167 0 16 (dk_at dksX7_often_1 11 rfl rfl)
theorem dX7_often_38 : decode cX7_often 38 = .ok (.iload 6, 2) := dk_21 6 (dk_at dksX7_often_1 14 rfl rfl)
theorem dX7_often_40 : decode cX7_often 40 = .ok (.iconst (-1), 1) := dk_2 (dk_at dksX7_often_1 16 rfl rfl)
theorem dX7_often_41 : decode cX7_often 41 = .ok (.iload_n 1, 1) := dk_27 (dk_at dksX7_often_1 17 rfl rfl)
theorem dX7_often_42 : decode cX7_often 42 = .ok (.isub, 1) := dk_100 (dk_at dksX7_often_1 18 rfl rfl)
theorem dX7_often_43 : decode cX7_often 43 = .ok (.if_icmp .ne 7, 3) := dk_160 0 7 (dk_at dksX7_often_1 19 rfl rfl)
theorem dX7_often_46 : decode cX7_often 46 = .ok (.iconst (-1), 1) := dk_2 (dk_at dksX7_often_1 22 rfl rfl)
theorem dX7_often_47 : decode cX7_often 47 = .ok (.goto 4, 3) := dk_167 0 4 (dk_at dksX7_often_2 0 rfl rfl)
theorem dX7_often_50 : decode cX7_often 50 = .ok (.iconst 0, 1) := dk_3 (dk_at dksX7_often_2 3 rfl rfl)
theorem dX7_often_51 : decode cX7_often 51 = .ok (.iadd, 1) := dk_96 (dk_at dksX7_often_2 4 rfl rfl)
theorem dX7_often_52 : decode cX7_often 52 = .ok (.istore_n 2, 1) := dk_61 (dk_at dksX7_often_2 5 rfl rfl)
theorem dX7_often_53 : decode cX7_often 53 = .ok (.iinc 5 1, 3) := dk_132 5 1 (dk_at dksX7_often_2 6 rfl rfl)
theorem dX7_often_56 : decode cX7_often 56 = .ok (.goto (-42), 3) := dk_167 255 214 (dk_at dksX7_often_2 9 rfl rfl)
theorem dX7_often_59 : decode cX7_often 59 = .ok (.iload_n 2, 1) := dk_28 (dk_at dksX7_often_2 12 rfl rfl)
theorem dX7_often_60 : decode cX7_often 60 = .ok (.ireturn, 1) := dk_172 (dk_at dksX7_often_2 13 rfl rfl)
abbrev cX7_with : ByteArray := prog_5_method_2_code
def yX7_with : MethodName := ⟨RX7, "with", "(I)LChainParts$FaceCell;"⟩
def dkwX7_with_0 : List UInt8 := [187, 0, 10, 89, 42, 180, 0, 9, 27, 183, 0, 19, 176]
abbrev dktX7_with_0 : List UInt8 := dkwX7_with_0 ++ []
theorem dksX7_with_0 : cX7_with.data.toList.drop 0 = dktX7_with_0 := by decide +kernel
theorem dX7_with_0 : decode cX7_with 0 = .ok (.new 10, 3) := dk_187 0 10 (dk_at dksX7_with_0 0 rfl rfl)
theorem dX7_with_3 : decode cX7_with 3 = .ok (.dup, 1) := dk_89 (dk_at dksX7_with_0 3 rfl rfl)
theorem dX7_with_4 : decode cX7_with 4 = .ok (.aload_n 0, 1) := dk_42 (dk_at dksX7_with_0 4 rfl rfl)
theorem dX7_with_5 : decode cX7_with 5 = .ok (.getfield 9, 3) := dk_180 0 9 (dk_at dksX7_with_0 5 rfl rfl)
theorem dX7_with_8 : decode cX7_with 8 = .ok (.iload_n 1, 1) := dk_27 (dk_at dksX7_with_0 8 rfl rfl)
theorem dX7_with_9 : decode cX7_with 9 = .ok (.invokespecial 19, 3) := dk_183 0 19 (dk_at dksX7_with_0 9 rfl rfl)
theorem dX7_with_12 : decode cX7_with 12 = .ok (.areturn, 1) := dk_176 (dk_at dksX7_with_0 12 rfl rfl)
abbrev cX7_has : ByteArray := prog_5_method_4_code
def yX7_has : MethodName := ⟨RX7, "has", "(I)Z"⟩
def dkwX7_has_2 : List UInt8 := [61, 132, 5, 1, 167, 255, 218, 28, 172]
abbrev dktX7_has_2 : List UInt8 := dkwX7_has_2 ++ []
def dkwX7_has_1 : List UInt8 := [46, 54, 6, 28, 21, 6, 27, 159, 0, 11, 21, 6, 2, 27, 100, 160, 0, 7, 4, 167, 0, 4, 3, 128]
abbrev dktX7_has_1 : List UInt8 := dkwX7_has_1 ++ dktX7_has_2
def dkwX7_has_0 : List UInt8 := [3, 61, 42, 180, 0, 9, 78, 45, 190, 54, 4, 3, 54, 5, 21, 5, 21, 4, 162, 0, 37, 45, 21, 5]
abbrev dktX7_has_0 : List UInt8 := dkwX7_has_0 ++ dktX7_has_1
theorem dksX7_has_0 : cX7_has.data.toList.drop 0 = dktX7_has_0 := by decide +kernel
theorem dksX7_has_1 : cX7_has.data.toList.drop 24 = dktX7_has_1 := dk_seg dksX7_has_0 24 rfl rfl
theorem dksX7_has_2 : cX7_has.data.toList.drop 48 = dktX7_has_2 := dk_seg dksX7_has_1 24 rfl rfl
theorem dX7_has_0 : decode cX7_has 0 = .ok (.iconst 0, 1) := dk_3 (dk_at dksX7_has_0 0 rfl rfl)
theorem dX7_has_1 : decode cX7_has 1 = .ok (.istore_n 2, 1) := dk_61 (dk_at dksX7_has_0 1 rfl rfl)
theorem dX7_has_2 : decode cX7_has 2 = .ok (.aload_n 0, 1) := dk_42 (dk_at dksX7_has_0 2 rfl rfl)
theorem dX7_has_3 : decode cX7_has 3 = .ok (.getfield 9, 3) := dk_180 0 9 (dk_at dksX7_has_0 3 rfl rfl)
theorem dX7_has_6 : decode cX7_has 6 = .ok (.astore_n 3, 1) := dk_78 (dk_at dksX7_has_0 6 rfl rfl)
theorem dX7_has_7 : decode cX7_has 7 = .ok (.aload_n 3, 1) := dk_45 (dk_at dksX7_has_0 7 rfl rfl)
theorem dX7_has_8 : decode cX7_has 8 = .ok (.arraylength, 1) := dk_190 (dk_at dksX7_has_0 8 rfl rfl)
theorem dX7_has_9 : decode cX7_has 9 = .ok (.istore 4, 2) := dk_54 4 (dk_at dksX7_has_0 9 rfl rfl)
theorem dX7_has_11 : decode cX7_has 11 = .ok (.iconst 0, 1) := dk_3 (dk_at dksX7_has_0 11 rfl rfl)
theorem dX7_has_12 : decode cX7_has 12 = .ok (.istore 5, 2) := dk_54 5 (dk_at dksX7_has_0 12 rfl rfl)
theorem dX7_has_14 : decode cX7_has 14 = .ok (.iload 5, 2) := dk_21 5 (dk_at dksX7_has_0 14 rfl rfl)
theorem dX7_has_16 : decode cX7_has 16 = .ok (.iload 4, 2) := dk_21 4 (dk_at dksX7_has_0 16 rfl rfl)
theorem dX7_has_18 : decode cX7_has 18 = .ok (.if_icmp .ge 37, 3) := dk_162 0 37 (dk_at dksX7_has_0 18 rfl rfl)
theorem dX7_has_21 : decode cX7_has 21 = .ok (.aload_n 3, 1) := dk_45 (dk_at dksX7_has_0 21 rfl rfl)
theorem dX7_has_22 : decode cX7_has 22 = .ok (.iload 5, 2) := dk_21 5 (dk_at dksX7_has_0 22 rfl rfl)
theorem dX7_has_24 : decode cX7_has 24 = .ok (.iaload, 1) := dk_46 (dk_at dksX7_has_1 0 rfl rfl)
theorem dX7_has_25 : decode cX7_has 25 = .ok (.istore 6, 2) := dk_54 6 (dk_at dksX7_has_1 1 rfl rfl)
theorem dX7_has_27 : decode cX7_has 27 = .ok (.iload_n 2, 1) := dk_28 (dk_at dksX7_has_1 3 rfl rfl)
theorem dX7_has_28 : decode cX7_has 28 = .ok (.iload 6, 2) := dk_21 6 (dk_at dksX7_has_1 4 rfl rfl)
theorem dX7_has_30 : decode cX7_has 30 = .ok (.iload_n 1, 1) := dk_27 (dk_at dksX7_has_1 6 rfl rfl)
theorem dX7_has_31 : decode cX7_has 31 = .ok (.if_icmp .eq 11, 3) := dk_159 0 11 (dk_at dksX7_has_1 7 rfl rfl)
theorem dX7_has_34 : decode cX7_has 34 = .ok (.iload 6, 2) := dk_21 6 (dk_at dksX7_has_1 10 rfl rfl)
theorem dX7_has_36 : decode cX7_has 36 = .ok (.iconst (-1), 1) := dk_2 (dk_at dksX7_has_1 12 rfl rfl)
theorem dX7_has_37 : decode cX7_has 37 = .ok (.iload_n 1, 1) := dk_27 (dk_at dksX7_has_1 13 rfl rfl)
theorem dX7_has_38 : decode cX7_has 38 = .ok (.isub, 1) := dk_100 (dk_at dksX7_has_1 14 rfl rfl)
theorem dX7_has_39 : decode cX7_has 39 = .ok (.if_icmp .ne 7, 3) := dk_160 0 7 (dk_at dksX7_has_1 15 rfl rfl)
theorem dX7_has_42 : decode cX7_has 42 = .ok (.iconst 1, 1) := dk_4 (dk_at dksX7_has_1 18 rfl rfl)
theorem dX7_has_43 : decode cX7_has 43 = .ok (.goto 4, 3) := dk_167 0 4 (dk_at dksX7_has_1 19 rfl rfl)
theorem dX7_has_46 : decode cX7_has 46 = .ok (.iconst 0, 1) := dk_3 (dk_at dksX7_has_1 22 rfl rfl)
theorem dX7_has_47 : decode cX7_has 47 = .ok (.ior, 1) := dk_128 (dk_at dksX7_has_1 23 rfl rfl)
theorem dX7_has_48 : decode cX7_has 48 = .ok (.istore_n 2, 1) := dk_61 (dk_at dksX7_has_2 0 rfl rfl)
theorem dX7_has_49 : decode cX7_has 49 = .ok (.iinc 5 1, 3) := dk_132 5 1 (dk_at dksX7_has_2 1 rfl rfl)
theorem dX7_has_52 : decode cX7_has 52 = .ok (.goto (-38), 3) := dk_167 255 218 (dk_at dksX7_has_2 4 rfl rfl)
theorem dX7_has_55 : decode cX7_has 55 = .ok (.iload_n 2, 1) := dk_28 (dk_at dksX7_has_2 7 rfl rfl)
theorem dX7_has_56 : decode cX7_has 56 = .ok (.ireturn, 1) := dk_172 (dk_at dksX7_has_2 8 rfl rfl)
abbrev cX7_without : ByteArray := prog_5_method_6_code
def yX7_without : MethodName := ⟨RX7, "without", "(I)LChainParts$FaceCell;"⟩
def dkwX7_without_2 : List UInt8 := [96, 79, 132, 3, 1, 167, 255, 217, 44, 42, 180, 0, 15, 184, 0, 28, 176]
abbrev dktX7_without_2 : List UInt8 := dkwX7_without_2 ++ []
def dkwX7_without_1 : List UInt8 := [164, 0, 10, 44, 29, 92, 46, 4, 100, 79, 44, 29, 46, 2, 27, 100, 162, 0, 10, 44, 29, 92, 46, 4]
abbrev dktX7_without_1 : List UInt8 := dkwX7_without_1 ++ dktX7_without_2
def dkwX7_without_0 : List UInt8 := [42, 180, 0, 9, 182, 0, 23, 192, 0, 24, 77, 3, 62, 29, 44, 190, 162, 0, 39, 44, 29, 46, 27]
abbrev dktX7_without_0 : List UInt8 := dkwX7_without_0 ++ dktX7_without_1
theorem dksX7_without_0 : cX7_without.data.toList.drop 0 = dktX7_without_0 := by decide +kernel
theorem dksX7_without_1 : cX7_without.data.toList.drop 23 = dktX7_without_1 := dk_seg dksX7_without_0 23 rfl rfl
theorem dksX7_without_2 : cX7_without.data.toList.drop 47 = dktX7_without_2 := dk_seg dksX7_without_1 24 rfl rfl
theorem dX7_without_0 : decode cX7_without 0 = .ok (.aload_n 0, 1) := dk_42 (dk_at dksX7_without_0 0 rfl rfl)
theorem dX7_without_1 : decode cX7_without 1 = .ok (.getfield 9, 3) := dk_180 0 9 (dk_at dksX7_without_0 1 rfl rfl)
theorem dX7_without_4 : decode cX7_without 4 = .ok (.invokevirtual 23, 3) := dk_182 0 23 (dk_at dksX7_without_0 4 rfl rfl)
theorem dX7_without_7 : decode cX7_without 7 = .ok (.checkcast 24, 3) := dk_192 0 24 (dk_at dksX7_without_0 7 rfl rfl)
theorem dX7_without_10 : decode cX7_without 10 = .ok (.astore_n 2, 1) := dk_77 (dk_at dksX7_without_0 10 rfl rfl)
theorem dX7_without_11 : decode cX7_without 11 = .ok (.iconst 0, 1) := dk_3 (dk_at dksX7_without_0 11 rfl rfl)
theorem dX7_without_12 : decode cX7_without 12 = .ok (.istore_n 3, 1) := dk_62 (dk_at dksX7_without_0 12 rfl rfl)
theorem dX7_without_13 : decode cX7_without 13 = .ok (.iload_n 3, 1) := dk_29 (dk_at dksX7_without_0 13 rfl rfl)
theorem dX7_without_14 : decode cX7_without 14 = .ok (.aload_n 2, 1) := dk_44 (dk_at dksX7_without_0 14 rfl rfl)
theorem dX7_without_15 : decode cX7_without 15 = .ok (.arraylength, 1) := dk_190 (dk_at dksX7_without_0 15 rfl rfl)
theorem dX7_without_16 : decode cX7_without 16 = .ok (.if_icmp .ge 39, 3) := dk_162 0 39 (dk_at dksX7_without_0 16 rfl rfl)
theorem dX7_without_19 : decode cX7_without 19 = .ok (.aload_n 2, 1) := dk_44 (dk_at dksX7_without_0 19 rfl rfl)
theorem dX7_without_20 : decode cX7_without 20 = .ok (.iload_n 3, 1) := dk_29 (dk_at dksX7_without_0 20 rfl rfl)
theorem dX7_without_21 : decode cX7_without 21 = .ok (.iaload, 1) := dk_46 (dk_at dksX7_without_0 21 rfl rfl)
theorem dX7_without_22 : decode cX7_without 22 = .ok (.iload_n 1, 1) := dk_27 (dk_at dksX7_without_0 22 rfl rfl)
theorem dX7_without_23 : decode cX7_without 23 = .ok (.if_icmp .le 10, 3) := dk_164 0 10 (dk_at dksX7_without_1 0 rfl rfl)
theorem dX7_without_26 : decode cX7_without 26 = .ok (.aload_n 2, 1) := dk_44 (dk_at dksX7_without_1 3 rfl rfl)
theorem dX7_without_27 : decode cX7_without 27 = .ok (.iload_n 3, 1) := dk_29 (dk_at dksX7_without_1 4 rfl rfl)
theorem dX7_without_28 : decode cX7_without 28 = .ok (.dup2, 1) := dk_92 (dk_at dksX7_without_1 5 rfl rfl)
theorem dX7_without_29 : decode cX7_without 29 = .ok (.iaload, 1) := dk_46 (dk_at dksX7_without_1 6 rfl rfl)
theorem dX7_without_30 : decode cX7_without 30 = .ok (.iconst 1, 1) := dk_4 (dk_at dksX7_without_1 7 rfl rfl)
theorem dX7_without_31 : decode cX7_without 31 = .ok (.isub, 1) := dk_100 (dk_at dksX7_without_1 8 rfl rfl)
theorem dX7_without_32 : decode cX7_without 32 = .ok (.iastore, 1) := dk_79 (dk_at dksX7_without_1 9 rfl rfl)
theorem dX7_without_33 : decode cX7_without 33 = .ok (.aload_n 2, 1) := dk_44 (dk_at dksX7_without_1 10 rfl rfl)
theorem dX7_without_34 : decode cX7_without 34 = .ok (.iload_n 3, 1) := dk_29 (dk_at dksX7_without_1 11 rfl rfl)
theorem dX7_without_35 : decode cX7_without 35 = .ok (.iaload, 1) := dk_46 (dk_at dksX7_without_1 12 rfl rfl)
theorem dX7_without_36 : decode cX7_without 36 = .ok (.iconst (-1), 1) := dk_2 (dk_at dksX7_without_1 13 rfl rfl)
theorem dX7_without_37 : decode cX7_without 37 = .ok (.iload_n 1, 1) := dk_27 (dk_at dksX7_without_1 14 rfl rfl)
theorem dX7_without_38 : decode cX7_without 38 = .ok (.isub, 1) := dk_100 (dk_at dksX7_without_1 15 rfl rfl)
theorem dX7_without_39 : decode cX7_without 39 = .ok (.if_icmp .ge 10, 3) := dk_162 0 10 (dk_at dksX7_without_1 16 rfl rfl)
theorem dX7_without_42 : decode cX7_without 42 = .ok (.aload_n 2, 1) := dk_44 (dk_at dksX7_without_1 19 rfl rfl)
theorem dX7_without_43 : decode cX7_without 43 = .ok (.iload_n 3, 1) := dk_29 (dk_at dksX7_without_1 20 rfl rfl)
theorem dX7_without_44 : decode cX7_without 44 = .ok (.dup2, 1) := dk_92 (dk_at dksX7_without_1 21 rfl rfl)
theorem dX7_without_45 : decode cX7_without 45 = .ok (.iaload, 1) := dk_46 (dk_at dksX7_without_1 22 rfl rfl)
theorem dX7_without_46 : decode cX7_without 46 = .ok (.iconst 1, 1) := dk_4 (dk_at dksX7_without_1 23 rfl rfl)
theorem dX7_without_47 : decode cX7_without 47 = .ok (.iadd, 1) := dk_96 (dk_at dksX7_without_2 0 rfl rfl)
theorem dX7_without_48 : decode cX7_without 48 = .ok (.iastore, 1) := dk_79 (dk_at dksX7_without_2 1 rfl rfl)
theorem dX7_without_49 : decode cX7_without 49 = .ok (.iinc 3 1, 3) := dk_132 3 1 (dk_at dksX7_without_2 2 rfl rfl)
theorem dX7_without_52 : decode cX7_without 52 = .ok (.goto (-39), 3) := dk_167 255 217 (dk_at dksX7_without_2 5 rfl rfl)
theorem dX7_without_55 : decode cX7_without 55 = .ok (.aload_n 2, 1) := dk_44 (dk_at dksX7_without_2 8 rfl rfl)
theorem dX7_without_56 : decode cX7_without 56 = .ok (.aload_n 0, 1) := dk_42 (dk_at dksX7_without_2 9 rfl rfl)
theorem dX7_without_57 : decode cX7_without 57 = .ok (.getfield 15, 3) := dk_180 0 15 (dk_at dksX7_without_2 10 rfl rfl)
theorem dX7_without_60 : decode cX7_without 60 = .ok (.invokestatic 28, 3) := dk_184 0 28 (dk_at dksX7_without_2 13 rfl rfl)
theorem dX7_without_63 : decode cX7_without 63 = .ok (.areturn, 1) := dk_176 (dk_at dksX7_without_2 16 rfl rfl)
abbrev cX7_letter : ByteArray := prog_5_method_5_code
def yX7_letter : MethodName := ⟨RX7, "letter", "(I)I"⟩
def dkwX7_letter_1 : List UInt8 := [16, 97, 42, 180, 0, 9, 27, 46, 96, 167, 0, 12, 16, 64, 42, 180, 0, 9, 27, 46, 100, 172]
abbrev dktX7_letter_1 : List UInt8 := dkwX7_letter_1 ++ []
def dkwX7_letter_0 : List UInt8 := [27, 42, 180, 0, 9, 190, 161, 0, 8, 18, 22, 167, 0, 33, 42, 180, 0, 9, 27, 46, 155, 0, 15]
abbrev dktX7_letter_0 : List UInt8 := dkwX7_letter_0 ++ dktX7_letter_1
theorem dksX7_letter_0 : cX7_letter.data.toList.drop 0 = dktX7_letter_0 := by decide +kernel
theorem dksX7_letter_1 : cX7_letter.data.toList.drop 23 = dktX7_letter_1 := dk_seg dksX7_letter_0 23 rfl rfl
theorem dX7_letter_0 : decode cX7_letter 0 = .ok (.iload_n 1, 1) := dk_27 (dk_at dksX7_letter_0 0 rfl rfl)
theorem dX7_letter_1 : decode cX7_letter 1 = .ok (.aload_n 0, 1) := dk_42 (dk_at dksX7_letter_0 1 rfl rfl)
theorem dX7_letter_2 : decode cX7_letter 2 = .ok (.getfield 9, 3) := dk_180 0 9 (dk_at dksX7_letter_0 2 rfl rfl)
theorem dX7_letter_5 : decode cX7_letter 5 = .ok (.arraylength, 1) := dk_190 (dk_at dksX7_letter_0 5 rfl rfl)
theorem dX7_letter_6 : decode cX7_letter 6 = .ok (.if_icmp .lt 8, 3) := dk_161 0 8 (dk_at dksX7_letter_0 6 rfl rfl)
theorem dX7_letter_9 : decode cX7_letter 9 = .ok (.ldc 22, 2) := dk_18 22 (dk_at dksX7_letter_0 9 rfl rfl)
theorem dX7_letter_11 : decode cX7_letter 11 = .ok (.goto 33, 3) := dk_167 0 33 (dk_at dksX7_letter_0 11 rfl rfl)
theorem dX7_letter_14 : decode cX7_letter 14 = .ok (.aload_n 0, 1) := dk_42 (dk_at dksX7_letter_0 14 rfl rfl)
theorem dX7_letter_15 : decode cX7_letter 15 = .ok (.getfield 9, 3) := dk_180 0 9 (dk_at dksX7_letter_0 15 rfl rfl)
theorem dX7_letter_18 : decode cX7_letter 18 = .ok (.iload_n 1, 1) := dk_27 (dk_at dksX7_letter_0 18 rfl rfl)
theorem dX7_letter_19 : decode cX7_letter 19 = .ok (.iaload, 1) := dk_46 (dk_at dksX7_letter_0 19 rfl rfl)
theorem dX7_letter_20 : decode cX7_letter 20 = .ok (.ifCond .lt 15, 3) := dk_155 0 15 (dk_at dksX7_letter_0 20 rfl rfl)
theorem dX7_letter_23 : decode cX7_letter 23 = .ok (.bipush 97, 2) := dk_16 97 (dk_at dksX7_letter_1 0 rfl rfl)
theorem dX7_letter_25 : decode cX7_letter 25 = .ok (.aload_n 0, 1) := dk_42 (dk_at dksX7_letter_1 2 rfl rfl)
theorem dX7_letter_26 : decode cX7_letter 26 = .ok (.getfield 9, 3) := dk_180 0 9 (dk_at dksX7_letter_1 3 rfl rfl)
theorem dX7_letter_29 : decode cX7_letter 29 = .ok (.iload_n 1, 1) := dk_27 (dk_at dksX7_letter_1 6 rfl rfl)
theorem dX7_letter_30 : decode cX7_letter 30 = .ok (.iaload, 1) := dk_46 (dk_at dksX7_letter_1 7 rfl rfl)
theorem dX7_letter_31 : decode cX7_letter 31 = .ok (.iadd, 1) := dk_96 (dk_at dksX7_letter_1 8 rfl rfl)
theorem dX7_letter_32 : decode cX7_letter 32 = .ok (.goto 12, 3) := dk_167 0 12 (dk_at dksX7_letter_1 9 rfl rfl)
theorem dX7_letter_35 : decode cX7_letter 35 = .ok (.bipush 64, 2) := dk_16 64 (dk_at dksX7_letter_1 12 rfl rfl)
theorem dX7_letter_37 : decode cX7_letter 37 = .ok (.aload_n 0, 1) := dk_42 (dk_at dksX7_letter_1 14 rfl rfl)
theorem dX7_letter_38 : decode cX7_letter 38 = .ok (.getfield 9, 3) := dk_180 0 9 (dk_at dksX7_letter_1 15 rfl rfl)
theorem dX7_letter_41 : decode cX7_letter 41 = .ok (.iload_n 1, 1) := dk_27 (dk_at dksX7_letter_1 18 rfl rfl)
theorem dX7_letter_42 : decode cX7_letter 42 = .ok (.iaload, 1) := dk_46 (dk_at dksX7_letter_1 19 rfl rfl)
theorem dX7_letter_43 : decode cX7_letter 43 = .ok (.isub, 1) := dk_100 (dk_at dksX7_letter_1 20 rfl rfl)
theorem dX7_letter_44 : decode cX7_letter 44 = .ok (.ireturn, 1) := dk_172 (dk_at dksX7_letter_1 21 rfl rfl)
theorem q82 : (Jvm.Cond.initialized "ChainParts$FaceCell") ∈ lw_all := lw_g (lw_at lw_m1 11 rfl) rfl
theorem q322 : (Jvm.Cond.instantiable "ChainParts$FaceCell" (2 : Nat)) ∈ lw_all := lw_g (lw_at lw_m2 11 rfl) rfl
theorem q324 : (Jvm.Cond.instanceMethod ({ cls := "ChainParts$FaceCell", name := "<init>", desc := "([II)V" } : Jvm.MethodName)) ∈ lw_all := lw_g (lw_at lw_m2 13 rfl) rfl
theorem q325 : (Jvm.Cond.code ({ cls := "ChainParts$FaceCell", name := "<init>", desc := "([II)V" } : Jvm.MethodName) prog_5_method_1_code (3 : Nat) (Option.none : Option Jvm.ClassFile.FieldType)) ∈ lw_all := lw_g (lw_at lw_m2 14 rfl) rfl
theorem q326 : (Jvm.Cond.methodLinkNest "ChainParts$FaceCell" (3 : Nat) ({ cls := "ChainParts$Cell", name := "<init>", desc := "()V" } : Jvm.MethodName) "ChainParts") ∈ lw_tbl := lw_at lw_m2 15 rfl
theorem q327 : (Jvm.Cond.fieldLink "ChainParts$FaceCell" (9 : Nat) "ChainParts$FaceCell" "word" "[I") ∈ lw_all := lw_g (lw_at lw_m2 16 rfl) rfl
theorem q331 : (Jvm.Cond.fieldLink "ChainParts$FaceCell" (15 : Nat) "ChainParts$FaceCell" "weight" "I") ∈ lw_all := lw_g (lw_at lw_m2 20 rfl) rfl
theorem q334 : (Jvm.Cond.laysFinal "ChainParts$FaceCell" "ChainParts$FaceCell" "word" "[I") ∈ lw_all := lw_g (lw_at lw_m2 23 rfl) rfl
theorem q335 : (Jvm.Cond.soleField "ChainParts$FaceCell" "word") ∈ lw_all := lw_g (lw_at lw_m2 24 rfl) rfl
theorem q336 : (Jvm.Cond.laysFinal "ChainParts$FaceCell" "ChainParts$FaceCell" "weight" "I") ∈ lw_all := lw_g (lw_at lw_m2 25 rfl) rfl
theorem q337 : (Jvm.Cond.soleField "ChainParts$FaceCell" "weight") ∈ lw_all := lw_g (lw_at lw_m2 26 rfl) rfl
theorem q338 : (Jvm.Cond.superclass "ChainParts$FaceCell" "ChainParts$Cell") ∈ lw_all := lw_g (lw_at lw_m2 27 rfl) rfl
theorem q341 : (Jvm.Cond.instanceMethod ({ cls := "ChainParts$FaceCell", name := "often", desc := "(I)I" } : Jvm.MethodName)) ∈ lw_all := lw_g (lw_at lw_m2 30 rfl) rfl
theorem q342 : (Jvm.Cond.selects "ChainParts$FaceCell" ({ cls := "ChainParts$FaceCell", name := "often", desc := "(I)I" } : Jvm.MethodName) ({ cls := "ChainParts$FaceCell", name := "often", desc := "(I)I" } : Jvm.MethodName)) ∈ lw_all := lw_g (lw_at lw_m2 31 rfl) rfl
theorem q343 : (Jvm.Cond.sameMethod "ChainParts$FaceCell" "ChainParts$FaceCell" "often" "(I)I") ∈ lw_all := lw_g (lw_at lw_m2 32 rfl) rfl
theorem q345 : (Jvm.Cond.code ({ cls := "ChainParts$FaceCell", name := "often", desc := "(I)I" } : Jvm.MethodName) prog_5_method_3_code (7 : Nat) (Option.some Jvm.ClassFile.FieldType.int)) ∈ lw_all := lw_g (lw_at lw_m2 34 rfl) rfl
theorem q431 : (Jvm.Cond.instanceMethod ({ cls := "ChainParts$FaceCell", name := "with", desc := "(I)LChainParts$FaceCell;" } : Jvm.MethodName)) ∈ lw_all := lw_g (lw_at lw_m2 120 rfl) rfl
theorem q432 : (Jvm.Cond.selects "ChainParts$FaceCell" ({ cls := "ChainParts$FaceCell", name := "with", desc := "(I)LChainParts$FaceCell;" } : Jvm.MethodName) ({ cls := "ChainParts$FaceCell", name := "with", desc := "(I)LChainParts$FaceCell;" } : Jvm.MethodName)) ∈ lw_all := lw_g (lw_at lw_m2 121 rfl) rfl
theorem q433 : (Jvm.Cond.sameMethod "ChainParts$FaceCell" "ChainParts$FaceCell" "with" "(I)LChainParts$FaceCell;") ∈ lw_all := lw_g (lw_at lw_m2 122 rfl) rfl
theorem q439 : (Jvm.Cond.code ({ cls := "ChainParts$FaceCell", name := "with", desc := "(I)LChainParts$FaceCell;" } : Jvm.MethodName) prog_5_method_2_code (2 : Nat) (Option.some (Jvm.ClassFile.FieldType.object "ChainParts$FaceCell"))) ∈ lw_all := lw_g (lw_at lw_m2 128 rfl) rfl
theorem q440 : (Jvm.Cond.classLink "ChainParts$FaceCell" (10 : Nat) "ChainParts$FaceCell") ∈ lw_all := lw_g (lw_at lw_m2 129 rfl) rfl
theorem q441 : (Jvm.Cond.methodLink "ChainParts$FaceCell" (19 : Nat) ({ cls := "ChainParts$FaceCell", name := "<init>", desc := "([II)V" } : Jvm.MethodName)) ∈ lw_all := lw_g (lw_at lw_m2 130 rfl) rfl
theorem q476 : (Jvm.Cond.instanceMethod ({ cls := "ChainParts$FaceCell", name := "has", desc := "(I)Z" } : Jvm.MethodName)) ∈ lw_all := lw_g (lw_at lw_m2 165 rfl) rfl
theorem q477 : (Jvm.Cond.selects "ChainParts$FaceCell" ({ cls := "ChainParts$FaceCell", name := "has", desc := "(I)Z" } : Jvm.MethodName) ({ cls := "ChainParts$FaceCell", name := "has", desc := "(I)Z" } : Jvm.MethodName)) ∈ lw_all := lw_g (lw_at lw_m2 166 rfl) rfl
theorem q478 : (Jvm.Cond.sameMethod "ChainParts$FaceCell" "ChainParts$FaceCell" "has" "(I)Z") ∈ lw_all := lw_g (lw_at lw_m2 167 rfl) rfl
theorem q480 : (Jvm.Cond.code ({ cls := "ChainParts$FaceCell", name := "has", desc := "(I)Z" } : Jvm.MethodName) prog_5_method_4_code (7 : Nat) (Option.some Jvm.ClassFile.FieldType.boolean)) ∈ lw_all := lw_g (lw_at lw_m2 169 rfl) rfl
theorem q486 : (Jvm.Cond.instanceMethod ({ cls := "ChainParts$FaceCell", name := "without", desc := "(I)LChainParts$FaceCell;" } : Jvm.MethodName)) ∈ lw_all := lw_g (lw_at lw_m2 175 rfl) rfl
theorem q487 : (Jvm.Cond.selects "ChainParts$FaceCell" ({ cls := "ChainParts$FaceCell", name := "without", desc := "(I)LChainParts$FaceCell;" } : Jvm.MethodName) ({ cls := "ChainParts$FaceCell", name := "without", desc := "(I)LChainParts$FaceCell;" } : Jvm.MethodName)) ∈ lw_all := lw_g (lw_at lw_m2 176 rfl) rfl
theorem q488 : (Jvm.Cond.sameMethod "ChainParts$FaceCell" "ChainParts$FaceCell" "without" "(I)LChainParts$FaceCell;") ∈ lw_all := lw_g (lw_at lw_m2 177 rfl) rfl
theorem q490 : (Jvm.Cond.code ({ cls := "ChainParts$FaceCell", name := "without", desc := "(I)LChainParts$FaceCell;" } : Jvm.MethodName) prog_5_method_6_code (4 : Nat) (Option.some (Jvm.ClassFile.FieldType.object "ChainParts$FaceCell"))) ∈ lw_all := lw_g (lw_at lw_m2 179 rfl) rfl
theorem q491 : (Jvm.Cond.methodLink "ChainParts$FaceCell" (23 : Nat) ({ cls := "[I", name := "clone", desc := "()Ljava/lang/Object;" } : Jvm.MethodName)) ∈ lw_all := lw_g (lw_at lw_m2 180 rfl) rfl
theorem q497 : (Jvm.Cond.classLink "ChainParts$FaceCell" (24 : Nat) "[I") ∈ lw_all := lw_g (lw_at lw_m2 186 rfl) rfl
theorem q498 : (Jvm.Cond.methodLinkNest "ChainParts$FaceCell" (28 : Nat) ({ cls := "ChainParts", name := "faceBy", desc := "([II)LChainParts$FaceCell;" } : Jvm.MethodName) "ChainParts") ∈ lw_tbl := lw_at lw_m2 187 rfl
theorem q556 : (Jvm.Cond.instanceMethod ({ cls := "ChainParts$FaceCell", name := "letter", desc := "(I)I" } : Jvm.MethodName)) ∈ lw_all := lw_g (lw_at lw_m3 5 rfl) rfl
theorem q557 : (Jvm.Cond.selects "ChainParts$FaceCell" ({ cls := "ChainParts$FaceCell", name := "letter", desc := "(I)I" } : Jvm.MethodName) ({ cls := "ChainParts$FaceCell", name := "letter", desc := "(I)I" } : Jvm.MethodName)) ∈ lw_all := lw_g (lw_at lw_m3 6 rfl) rfl
theorem q558 : (Jvm.Cond.sameMethod "ChainParts$FaceCell" "ChainParts$FaceCell" "letter" "(I)I") ∈ lw_all := lw_g (lw_at lw_m3 7 rfl) rfl
theorem q560 : (Jvm.Cond.code ({ cls := "ChainParts$FaceCell", name := "letter", desc := "(I)I" } : Jvm.MethodName) prog_5_method_5_code (2 : Nat) (Option.some Jvm.ClassFile.FieldType.int)) ∈ lw_all := lw_g (lw_at lw_m3 9 rfl) rfl
theorem q561 : (Jvm.Cond.constant "ChainParts$FaceCell" (22 : Nat) (-1000000 : Int32)) ∈ lw_all := lw_g (lw_at lw_m3 10 rfl) rfl
theorem q1428 : (Jvm.Cond.castable "ChainParts$FaceCell" "ChainParts$Cell") ∈ lw_tbl := lw_at lw_m6 157 rfl
theorem in_X7 : ∀ w ∈ wsX70, w ∈ lw_all := lw_in wsX70 [334, 336] (by decide +kernel) (by decide +kernel)
/-! ChainParts$SealedCell -/
set_option maxRecDepth 100000
def RX8 : String := "ChainParts$SealedCell"
def TX8 : u_T := fun k => match k with
  | 0 => ("ChainParts$FaceCell", "word", "[I", true)
  | _ => ("ChainParts$FaceCell", "weight", "I", true)
def tyX8 : Nat → FieldType := fun k => match k with
  | 0 => .array .int
  | _ => .int
abbrev wsX80 : List Cond := u_ws RX8 TX8 2
theorem nmX8 : ∀ a, a < 2 → ∀ b, b < 2 → a ≠ b → (TX8 a).2.1 ≠ (TX8 b).2.1 := by decide +kernel
theorem tyX8_ok : ∀ k, k < 2 → parseFieldDescriptor (TX8 k).2.2.1 = some (tyX8 k) := by decide +kernel
abbrev cX8_init : ByteArray := prog_11_method_1_code
def yX8_init : MethodName := ⟨RX8, "<init>", "([II)V"⟩
def dkwX8_init_0 : List UInt8 := [42, 43, 28, 183, 0, 1, 177]
abbrev dktX8_init_0 : List UInt8 := dkwX8_init_0 ++ []
theorem dksX8_init_0 : cX8_init.data.toList.drop 0 = dktX8_init_0 := by decide +kernel
theorem dX8_init_0 : decode cX8_init 0 = .ok (.aload_n 0, 1) := dk_42 (dk_at dksX8_init_0 0 rfl rfl)
theorem dX8_init_1 : decode cX8_init 1 = .ok (.aload_n 1, 1) := dk_43 (dk_at dksX8_init_0 1 rfl rfl)
theorem dX8_init_2 : decode cX8_init 2 = .ok (.iload_n 2, 1) := dk_28 (dk_at dksX8_init_0 2 rfl rfl)
theorem dX8_init_3 : decode cX8_init 3 = .ok (.invokespecial 1, 3) := dk_183 0 1 (dk_at dksX8_init_0 3 rfl rfl)
theorem dX8_init_6 : decode cX8_init 6 = .ok (.return_, 1) := dk_177 (dk_at dksX8_init_0 6 rfl rfl)
abbrev cX8_with : ByteArray := prog_11_method_2_code
def yX8_with : MethodName := ⟨RX8, "with", "(I)LChainParts$FaceCell;"⟩
def dkwX8_with_0 : List UInt8 := [187, 0, 7, 89, 42, 180, 0, 9, 27, 183, 0, 13, 176]
abbrev dktX8_with_0 : List UInt8 := dkwX8_with_0 ++ []
theorem dksX8_with_0 : cX8_with.data.toList.drop 0 = dktX8_with_0 := by decide +kernel
theorem dX8_with_0 : decode cX8_with 0 = .ok (.new 7, 3) := dk_187 0 7 (dk_at dksX8_with_0 0 rfl rfl)
theorem dX8_with_3 : decode cX8_with 3 = .ok (.dup, 1) := dk_89 (dk_at dksX8_with_0 3 rfl rfl)
theorem dX8_with_4 : decode cX8_with 4 = .ok (.aload_n 0, 1) := dk_42 (dk_at dksX8_with_0 4 rfl rfl)
theorem dX8_with_5 : decode cX8_with 5 = .ok (.getfield 9, 3) := dk_180 0 9 (dk_at dksX8_with_0 5 rfl rfl)
theorem dX8_with_8 : decode cX8_with 8 = .ok (.iload_n 1, 1) := dk_27 (dk_at dksX8_with_0 8 rfl rfl)
theorem dX8_with_9 : decode cX8_with 9 = .ok (.invokespecial 13, 3) := dk_183 0 13 (dk_at dksX8_with_0 9 rfl rfl)
theorem dX8_with_12 : decode cX8_with 12 = .ok (.areturn, 1) := dk_176 (dk_at dksX8_with_0 12 rfl rfl)
theorem q83 : (Jvm.Cond.initialized "ChainParts$SealedCell") ∈ lw_all := lw_g (lw_at lw_m1 12 rfl) rfl
theorem q328 : (Jvm.Cond.fieldLink "ChainParts$SealedCell" (9 : Nat) "ChainParts$SealedCell" "word" "[I") ∈ lw_all := lw_g (lw_at lw_m2 17 rfl) rfl
theorem q329 : (Jvm.Cond.sameField "ChainParts$SealedCell" "ChainParts$FaceCell" "word" "[I") ∈ lw_all := lw_g (lw_at lw_m2 18 rfl) rfl
theorem q344 : (Jvm.Cond.selects "ChainParts$SealedCell" ({ cls := "ChainParts$FaceCell", name := "often", desc := "(I)I" } : Jvm.MethodName) ({ cls := "ChainParts$FaceCell", name := "often", desc := "(I)I" } : Jvm.MethodName)) ∈ lw_all := lw_g (lw_at lw_m2 33 rfl) rfl
theorem q347 : (Jvm.Cond.instantiable "ChainParts$SealedCell" (2 : Nat)) ∈ lw_all := lw_g (lw_at lw_m2 36 rfl) rfl
theorem q349 : (Jvm.Cond.instanceMethod ({ cls := "ChainParts$SealedCell", name := "<init>", desc := "([II)V" } : Jvm.MethodName)) ∈ lw_all := lw_g (lw_at lw_m2 38 rfl) rfl
theorem q350 : (Jvm.Cond.code ({ cls := "ChainParts$SealedCell", name := "<init>", desc := "([II)V" } : Jvm.MethodName) prog_11_method_1_code (3 : Nat) (Option.none : Option Jvm.ClassFile.FieldType)) ∈ lw_all := lw_g (lw_at lw_m2 39 rfl) rfl
theorem q351 : (Jvm.Cond.methodLink "ChainParts$SealedCell" (1 : Nat) ({ cls := "ChainParts$FaceCell", name := "<init>", desc := "([II)V" } : Jvm.MethodName)) ∈ lw_all := lw_g (lw_at lw_m2 40 rfl) rfl
theorem q352 : (Jvm.Cond.laysFinal "ChainParts$SealedCell" "ChainParts$FaceCell" "word" "[I") ∈ lw_all := lw_g (lw_at lw_m2 41 rfl) rfl
theorem q353 : (Jvm.Cond.laysFinal "ChainParts$SealedCell" "ChainParts$FaceCell" "weight" "I") ∈ lw_all := lw_g (lw_at lw_m2 42 rfl) rfl
theorem q354 : (Jvm.Cond.superclass "ChainParts$SealedCell" "ChainParts$FaceCell") ∈ lw_all := lw_g (lw_at lw_m2 43 rfl) rfl
theorem q434 : (Jvm.Cond.selects "ChainParts$SealedCell" ({ cls := "ChainParts$FaceCell", name := "with", desc := "(I)LChainParts$FaceCell;" } : Jvm.MethodName) ({ cls := "ChainParts$SealedCell", name := "with", desc := "(I)LChainParts$FaceCell;" } : Jvm.MethodName)) ∈ lw_all := lw_g (lw_at lw_m2 123 rfl) rfl
theorem q435 : (Jvm.Cond.instanceMethod ({ cls := "ChainParts$SealedCell", name := "with", desc := "(I)LChainParts$FaceCell;" } : Jvm.MethodName)) ∈ lw_all := lw_g (lw_at lw_m2 124 rfl) rfl
theorem q436 : (Jvm.Cond.code ({ cls := "ChainParts$SealedCell", name := "with", desc := "(I)LChainParts$FaceCell;" } : Jvm.MethodName) prog_11_method_2_code (2 : Nat) (Option.some (Jvm.ClassFile.FieldType.object "ChainParts$FaceCell"))) ∈ lw_all := lw_g (lw_at lw_m2 125 rfl) rfl
theorem q437 : (Jvm.Cond.classLink "ChainParts$SealedCell" (7 : Nat) "ChainParts$SealedCell") ∈ lw_all := lw_g (lw_at lw_m2 126 rfl) rfl
theorem q438 : (Jvm.Cond.methodLink "ChainParts$SealedCell" (13 : Nat) ({ cls := "ChainParts$SealedCell", name := "<init>", desc := "([II)V" } : Jvm.MethodName)) ∈ lw_all := lw_g (lw_at lw_m2 127 rfl) rfl
theorem q479 : (Jvm.Cond.selects "ChainParts$SealedCell" ({ cls := "ChainParts$FaceCell", name := "has", desc := "(I)Z" } : Jvm.MethodName) ({ cls := "ChainParts$FaceCell", name := "has", desc := "(I)Z" } : Jvm.MethodName)) ∈ lw_all := lw_g (lw_at lw_m2 168 rfl) rfl
theorem q489 : (Jvm.Cond.selects "ChainParts$SealedCell" ({ cls := "ChainParts$FaceCell", name := "without", desc := "(I)LChainParts$FaceCell;" } : Jvm.MethodName) ({ cls := "ChainParts$FaceCell", name := "without", desc := "(I)LChainParts$FaceCell;" } : Jvm.MethodName)) ∈ lw_all := lw_g (lw_at lw_m2 178 rfl) rfl
theorem q559 : (Jvm.Cond.selects "ChainParts$SealedCell" ({ cls := "ChainParts$FaceCell", name := "letter", desc := "(I)I" } : Jvm.MethodName) ({ cls := "ChainParts$FaceCell", name := "letter", desc := "(I)I" } : Jvm.MethodName)) ∈ lw_all := lw_g (lw_at lw_m3 8 rfl) rfl
theorem q1425 : (Jvm.Cond.castable "ChainParts$SealedCell" "ChainParts$FaceCell") ∈ lw_tbl := lw_at lw_m6 154 rfl
theorem q1429 : (Jvm.Cond.castable "ChainParts$SealedCell" "ChainParts$Cell") ∈ lw_tbl := lw_at lw_m6 158 rfl
theorem in_X8 : ∀ w ∈ wsX80, w ∈ lw_all := lw_in wsX80 [352, 353] (by decide +kernel) (by decide +kernel)
/-! ChainParts$PointCell -/
set_option maxRecDepth 100000
def RX10 : String := "ChainParts$PointCell"
abbrev cX10_init : ByteArray := prog_9_method_1_code
def yX10_init : MethodName := ⟨RX10, "<init>", "()V"⟩
theorem dX10_init_0 : decode cX10_init 0 = .ok (.aload_n 0, 1) := by decide +kernel
theorem dX10_init_1 : decode cX10_init 1 = .ok (.invokespecial 1, 3) := by decide +kernel
theorem dX10_init_4 : decode cX10_init 4 = .ok (.return_, 1) := by decide +kernel
theorem q89 : (Jvm.Cond.initialized "ChainParts$PointCell") ∈ lw_all := lw_g (lw_at lw_m1 18 rfl) rfl
theorem q600 : (Jvm.Cond.instantiable "ChainParts$PointCell" (0 : Nat)) ∈ lw_all := lw_g (lw_at lw_m3 49 rfl) rfl
theorem q602 : (Jvm.Cond.instanceMethod ({ cls := "ChainParts$PointCell", name := "<init>", desc := "()V" } : Jvm.MethodName)) ∈ lw_all := lw_g (lw_at lw_m3 51 rfl) rfl
theorem q603 : (Jvm.Cond.code ({ cls := "ChainParts$PointCell", name := "<init>", desc := "()V" } : Jvm.MethodName) prog_9_method_1_code (1 : Nat) (Option.none : Option Jvm.ClassFile.FieldType)) ∈ lw_all := lw_g (lw_at lw_m3 52 rfl) rfl
theorem q604 : (Jvm.Cond.methodLinkNest "ChainParts$PointCell" (1 : Nat) ({ cls := "ChainParts$Cell", name := "<init>", desc := "()V" } : Jvm.MethodName) "ChainParts") ∈ lw_tbl := lw_at lw_m3 53 rfl
theorem q605 : (Jvm.Cond.superclass "ChainParts$PointCell" "ChainParts$Cell") ∈ lw_all := lw_g (lw_at lw_m3 54 rfl) rfl
theorem q1430 : (Jvm.Cond.castable "ChainParts$PointCell" "ChainParts$Cell") ∈ lw_tbl := lw_at lw_m6 159 rfl
/-! ChainParts$Fraction -/
set_option maxRecDepth 100000
def RX12 : String := "ChainParts$Fraction"
def TX12 : u_T := fun k => match k with
  | 0 => ("ChainParts$Fraction", "above", "J", true)
  | _ => ("ChainParts$Fraction", "below", "J", true)
def tyX12 : Nat → FieldType := fun k => match k with
  | 0 => .long
  | _ => .long
abbrev wsX120 : List Cond := u_ws RX12 TX12 2
theorem nmX12 : ∀ a, a < 2 → ∀ b, b < 2 → a ≠ b → (TX12 a).2.1 ≠ (TX12 b).2.1 := by decide +kernel
theorem tyX12_ok : ∀ k, k < 2 → parseFieldDescriptor (TX12 k).2.2.1 = some (tyX12 k) := by decide +kernel
abbrev cX12_init : ByteArray := prog_7_method_1_code
def yX12_init : MethodName := ⟨RX12, "<init>", "(JJ)V"⟩
def dkwX12_init_1 : List UInt8 := [55, 5, 42, 31, 22, 5, 109, 181, 0, 15, 42, 33, 22, 5, 109, 181, 0, 21, 177]
abbrev dktX12_init_1 : List UInt8 := dkwX12_init_1 ++ []
def dkwX12_init_0 : List UInt8 := [42, 183, 0, 1, 31, 33, 184, 0, 7, 33, 9, 148, 156, 0, 9, 20, 0, 13, 167, 0, 4, 10, 105]
abbrev dktX12_init_0 : List UInt8 := dkwX12_init_0 ++ dktX12_init_1
theorem dksX12_init_0 : cX12_init.data.toList.drop 0 = dktX12_init_0 := by decide +kernel
theorem dksX12_init_1 : cX12_init.data.toList.drop 23 = dktX12_init_1 := dk_seg dksX12_init_0 23 rfl rfl
theorem dX12_init_0 : decode cX12_init 0 = .ok (.aload_n 0, 1) := dk_42 (dk_at dksX12_init_0 0 rfl rfl)
theorem dX12_init_1 : decode cX12_init 1 = .ok (.invokespecial 1, 3) := dk_183 0 1 (dk_at dksX12_init_0 1 rfl rfl)
theorem dX12_init_4 : decode cX12_init 4 = .ok (.lload_n 1, 1) := dk_31 (dk_at dksX12_init_0 4 rfl rfl)
theorem dX12_init_5 : decode cX12_init 5 = .ok (.lload_n 3, 1) := dk_33 (dk_at dksX12_init_0 5 rfl rfl)
theorem dX12_init_6 : decode cX12_init 6 = .ok (.invokestatic 7, 3) := dk_184 0 7 (dk_at dksX12_init_0 6 rfl rfl)
theorem dX12_init_9 : decode cX12_init 9 = .ok (.lload_n 3, 1) := dk_33 (dk_at dksX12_init_0 9 rfl rfl)
theorem dX12_init_10 : decode cX12_init 10 = .ok (.lconst 0, 1) := dk_9 (dk_at dksX12_init_0 10 rfl rfl)
theorem dX12_init_11 : decode cX12_init 11 = .ok (.lcmp, 1) := dk_148 (dk_at dksX12_init_0 11 rfl rfl)
theorem dX12_init_12 : decode cX12_init 12 = .ok (.ifCond .ge 9, 3) := dk_156 0 9 (dk_at dksX12_init_0 12 rfl rfl)
theorem dX12_init_15 : decode cX12_init 15 = .ok (.ldc2_w 13, 3) := dk_20 0 13 (dk_at dksX12_init_0 15 rfl rfl)
theorem dX12_init_18 : decode cX12_init 18 = .ok (.goto 4, 3) := dk_167 0 4 (dk_at dksX12_init_0 18 rfl rfl)
theorem dX12_init_21 : decode cX12_init 21 = .ok (.lconst 1, 1) := dk_10 (dk_at dksX12_init_0 21 rfl rfl)
theorem dX12_init_22 : decode cX12_init 22 = .ok (.lmul, 1) := dk_105 (dk_at dksX12_init_0 22 rfl rfl)
theorem dX12_init_23 : decode cX12_init 23 = .ok (.lstore 5, 2) := dk_55 5 (dk_at dksX12_init_1 0 rfl rfl)
theorem dX12_init_25 : decode cX12_init 25 = .ok (.aload_n 0, 1) := dk_42 (dk_at dksX12_init_1 2 rfl rfl)
theorem dX12_init_26 : decode cX12_init 26 = .ok (.lload_n 1, 1) := dk_31 (dk_at dksX12_init_1 3 rfl rfl)
theorem dX12_init_27 : decode cX12_init 27 = .ok (.lload 5, 2) := dk_22 5 (dk_at dksX12_init_1 4 rfl rfl)
theorem dX12_init_29 : decode cX12_init 29 = .ok (.ldiv, 1) := dk_109 (dk_at dksX12_init_1 6 rfl rfl)
theorem dX12_init_30 : decode cX12_init 30 = .ok (.putfield 15, 3) := dk_181 0 15 (dk_at dksX12_init_1 7 rfl rfl)
theorem dX12_init_33 : decode cX12_init 33 = .ok (.aload_n 0, 1) := dk_42 (dk_at dksX12_init_1 10 rfl rfl)
theorem dX12_init_34 : decode cX12_init 34 = .ok (.lload_n 3, 1) := dk_33 (dk_at dksX12_init_1 11 rfl rfl)
theorem dX12_init_35 : decode cX12_init 35 = .ok (.lload 5, 2) := dk_22 5 (dk_at dksX12_init_1 12 rfl rfl)
theorem dX12_init_37 : decode cX12_init 37 = .ok (.ldiv, 1) := dk_109 (dk_at dksX12_init_1 14 rfl rfl)
theorem dX12_init_38 : decode cX12_init 38 = .ok (.putfield 21, 3) := dk_181 0 21 (dk_at dksX12_init_1 15 rfl rfl)
theorem dX12_init_41 : decode cX12_init 41 = .ok (.return_, 1) := dk_177 (dk_at dksX12_init_1 18 rfl rfl)
abbrev cX12_minus : ByteArray := prog_7_method_3_code
def yX12_minus : MethodName := ⟨RX12, "minus", "(LChainParts$Fraction;)LChainParts$Fraction;"⟩
def dkwX12_minus_0 : List UInt8 := [42, 187, 0, 16, 89, 43, 180, 0, 15, 117, 43, 180, 0, 21, 183, 0, 24, 182, 0, 27, 176]
abbrev dktX12_minus_0 : List UInt8 := dkwX12_minus_0 ++ []
theorem dksX12_minus_0 : cX12_minus.data.toList.drop 0 = dktX12_minus_0 := by decide +kernel
theorem dX12_minus_0 : decode cX12_minus 0 = .ok (.aload_n 0, 1) := dk_42 (dk_at dksX12_minus_0 0 rfl rfl)
theorem dX12_minus_1 : decode cX12_minus 1 = .ok (.new 16, 3) := dk_187 0 16 (dk_at dksX12_minus_0 1 rfl rfl)
theorem dX12_minus_4 : decode cX12_minus 4 = .ok (.dup, 1) := dk_89 (dk_at dksX12_minus_0 4 rfl rfl)
theorem dX12_minus_5 : decode cX12_minus 5 = .ok (.aload_n 1, 1) := dk_43 (dk_at dksX12_minus_0 5 rfl rfl)
theorem dX12_minus_6 : decode cX12_minus 6 = .ok (.getfield 15, 3) := dk_180 0 15 (dk_at dksX12_minus_0 6 rfl rfl)
theorem dX12_minus_9 : decode cX12_minus 9 = .ok (.lneg, 1) := dk_117 (dk_at dksX12_minus_0 9 rfl rfl)
theorem dX12_minus_10 : decode cX12_minus 10 = .ok (.aload_n 1, 1) := dk_43 (dk_at dksX12_minus_0 10 rfl rfl)
theorem dX12_minus_11 : decode cX12_minus 11 = .ok (.getfield 21, 3) := dk_180 0 21 (dk_at dksX12_minus_0 11 rfl rfl)
theorem dX12_minus_14 : decode cX12_minus 14 = .ok (.invokespecial 24, 3) := dk_183 0 24 (dk_at dksX12_minus_0 14 rfl rfl)
theorem dX12_minus_17 : decode cX12_minus 17 = .ok (.invokevirtual 27, 3) := dk_182 0 27 (dk_at dksX12_minus_0 17 rfl rfl)
theorem dX12_minus_20 : decode cX12_minus 20 = .ok (.areturn, 1) := dk_176 (dk_at dksX12_minus_0 20 rfl rfl)
abbrev cX12_plus : ByteArray := prog_7_method_2_code
def yX12_plus : MethodName := ⟨RX12, "plus", "(LChainParts$Fraction;)LChainParts$Fraction;"⟩
def dkwX12_plus_2 : List UInt8 := [180, 0, 21, 105, 183, 0, 24, 176]
abbrev dktX12_plus_2 : List UInt8 := dkwX12_plus_2 ++ []
def dkwX12_plus_1 : List UInt8 := [32, 109, 105, 43, 180, 0, 15, 42, 180, 0, 21, 32, 109, 105, 97, 42, 180, 0, 21, 32, 109, 43]
abbrev dktX12_plus_1 : List UInt8 := dkwX12_plus_1 ++ dktX12_plus_2
def dkwX12_plus_0 : List UInt8 := [42, 180, 0, 21, 43, 180, 0, 21, 184, 0, 7, 65, 187, 0, 16, 89, 42, 180, 0, 15, 43, 180, 0, 21]
abbrev dktX12_plus_0 : List UInt8 := dkwX12_plus_0 ++ dktX12_plus_1
theorem dksX12_plus_0 : cX12_plus.data.toList.drop 0 = dktX12_plus_0 := by decide +kernel
theorem dksX12_plus_1 : cX12_plus.data.toList.drop 24 = dktX12_plus_1 := dk_seg dksX12_plus_0 24 rfl rfl
theorem dksX12_plus_2 : cX12_plus.data.toList.drop 46 = dktX12_plus_2 := dk_seg dksX12_plus_1 22 rfl rfl
theorem dX12_plus_0 : decode cX12_plus 0 = .ok (.aload_n 0, 1) := dk_42 (dk_at dksX12_plus_0 0 rfl rfl)
theorem dX12_plus_1 : decode cX12_plus 1 = .ok (.getfield 21, 3) := dk_180 0 21 (dk_at dksX12_plus_0 1 rfl rfl)
theorem dX12_plus_4 : decode cX12_plus 4 = .ok (.aload_n 1, 1) := dk_43 (dk_at dksX12_plus_0 4 rfl rfl)
theorem dX12_plus_5 : decode cX12_plus 5 = .ok (.getfield 21, 3) := dk_180 0 21 (dk_at dksX12_plus_0 5 rfl rfl)
theorem dX12_plus_8 : decode cX12_plus 8 = .ok (.invokestatic 7, 3) := dk_184 0 7 (dk_at dksX12_plus_0 8 rfl rfl)
theorem dX12_plus_11 : decode cX12_plus 11 = .ok (.lstore_n 2, 1) := dk_65 (dk_at dksX12_plus_0 11 rfl rfl)
theorem dX12_plus_12 : decode cX12_plus 12 = .ok (.new 16, 3) := dk_187 0 16 (dk_at dksX12_plus_0 12 rfl rfl)
theorem dX12_plus_15 : decode cX12_plus 15 = .ok (.dup, 1) := dk_89 (dk_at dksX12_plus_0 15 rfl rfl)
theorem dX12_plus_16 : decode cX12_plus 16 = .ok (.aload_n 0, 1) := dk_42 (dk_at dksX12_plus_0 16 rfl rfl)
theorem dX12_plus_17 : decode cX12_plus 17 = .ok (.getfield 15, 3) := dk_180 0 15 (dk_at dksX12_plus_0 17 rfl rfl)
theorem dX12_plus_20 : decode cX12_plus 20 = .ok (.aload_n 1, 1) := dk_43 (dk_at dksX12_plus_0 20 rfl rfl)
theorem dX12_plus_21 : decode cX12_plus 21 = .ok (.getfield 21, 3) := dk_180 0 21 (dk_at dksX12_plus_0 21 rfl rfl)
theorem dX12_plus_24 : decode cX12_plus 24 = .ok (.lload_n 2, 1) := dk_32 (dk_at dksX12_plus_1 0 rfl rfl)
theorem dX12_plus_25 : decode cX12_plus 25 = .ok (.ldiv, 1) := dk_109 (dk_at dksX12_plus_1 1 rfl rfl)
theorem dX12_plus_26 : decode cX12_plus 26 = .ok (.lmul, 1) := dk_105 (dk_at dksX12_plus_1 2 rfl rfl)
theorem dX12_plus_27 : decode cX12_plus 27 = .ok (.aload_n 1, 1) := dk_43 (dk_at dksX12_plus_1 3 rfl rfl)
theorem dX12_plus_28 : decode cX12_plus 28 = .ok (.getfield 15, 3) := dk_180 0 15 (dk_at dksX12_plus_1 4 rfl rfl)
theorem dX12_plus_31 : decode cX12_plus 31 = .ok (.aload_n 0, 1) := dk_42 (dk_at dksX12_plus_1 7 rfl rfl)
theorem dX12_plus_32 : decode cX12_plus 32 = .ok (.getfield 21, 3) := dk_180 0 21 (dk_at dksX12_plus_1 8 rfl rfl)
theorem dX12_plus_35 : decode cX12_plus 35 = .ok (.lload_n 2, 1) := dk_32 (dk_at dksX12_plus_1 11 rfl rfl)
theorem dX12_plus_36 : decode cX12_plus 36 = .ok (.ldiv, 1) := dk_109 (dk_at dksX12_plus_1 12 rfl rfl)
theorem dX12_plus_37 : decode cX12_plus 37 = .ok (.lmul, 1) := dk_105 (dk_at dksX12_plus_1 13 rfl rfl)
theorem dX12_plus_38 : decode cX12_plus 38 = .ok (.ladd, 1) := dk_97 (dk_at dksX12_plus_1 14 rfl rfl)
theorem dX12_plus_39 : decode cX12_plus 39 = .ok (.aload_n 0, 1) := dk_42 (dk_at dksX12_plus_1 15 rfl rfl)
theorem dX12_plus_40 : decode cX12_plus 40 = .ok (.getfield 21, 3) := dk_180 0 21 (dk_at dksX12_plus_1 16 rfl rfl)
theorem dX12_plus_43 : decode cX12_plus 43 = .ok (.lload_n 2, 1) := dk_32 (dk_at dksX12_plus_1 19 rfl rfl)
theorem dX12_plus_44 : decode cX12_plus 44 = .ok (.ldiv, 1) := dk_109 (dk_at dksX12_plus_1 20 rfl rfl)
theorem dX12_plus_45 : decode cX12_plus 45 = .ok (.aload_n 1, 1) := dk_43 (dk_at dksX12_plus_1 21 rfl rfl)
theorem dX12_plus_46 : decode cX12_plus 46 = .ok (.getfield 21, 3) := dk_180 0 21 (dk_at dksX12_plus_2 0 rfl rfl)
theorem dX12_plus_49 : decode cX12_plus 49 = .ok (.lmul, 1) := dk_105 (dk_at dksX12_plus_2 3 rfl rfl)
theorem dX12_plus_50 : decode cX12_plus 50 = .ok (.invokespecial 24, 3) := dk_183 0 24 (dk_at dksX12_plus_2 4 rfl rfl)
theorem dX12_plus_53 : decode cX12_plus 53 = .ok (.areturn, 1) := dk_176 (dk_at dksX12_plus_2 7 rfl rfl)
abbrev cX12_told : ByteArray := prog_7_method_5_code
def yX12_told : MethodName := ⟨RX12, "told", "(I)J"⟩
def dkwX12_told_0 : List UInt8 := [27, 154, 0, 10, 42, 180, 0, 15, 167, 0, 7, 42, 180, 0, 21, 173]
abbrev dktX12_told_0 : List UInt8 := dkwX12_told_0 ++ []
theorem dksX12_told_0 : cX12_told.data.toList.drop 0 = dktX12_told_0 := by decide +kernel
theorem dX12_told_0 : decode cX12_told 0 = .ok (.iload_n 1, 1) := dk_27 (dk_at dksX12_told_0 0 rfl rfl)
theorem dX12_told_1 : decode cX12_told 1 = .ok (.ifCond .ne 10, 3) := dk_154 0 10 (dk_at dksX12_told_0 1 rfl rfl)
theorem dX12_told_4 : decode cX12_told 4 = .ok (.aload_n 0, 1) := dk_42 (dk_at dksX12_told_0 4 rfl rfl)
theorem dX12_told_5 : decode cX12_told 5 = .ok (.getfield 15, 3) := dk_180 0 15 (dk_at dksX12_told_0 5 rfl rfl)
theorem dX12_told_8 : decode cX12_told 8 = .ok (.goto 7, 3) := dk_167 0 7 (dk_at dksX12_told_0 8 rfl rfl)
theorem dX12_told_11 : decode cX12_told 11 = .ok (.aload_n 0, 1) := dk_42 (dk_at dksX12_told_0 11 rfl rfl)
theorem dX12_told_12 : decode cX12_told 12 = .ok (.getfield 21, 3) := dk_180 0 21 (dk_at dksX12_told_0 12 rfl rfl)
theorem dX12_told_15 : decode cX12_told 15 = .ok (.lreturn, 1) := dk_173 (dk_at dksX12_told_0 15 rfl rfl)
abbrev cX12_by : ByteArray := prog_7_method_4_code
def yX12_by : MethodName := ⟨RX12, "by", "(LChainParts$Fraction;)LChainParts$Fraction;"⟩
def dkwX12_by_3 : List UInt8 := [180, 0, 15, 32, 109, 105, 183, 0, 24, 176]
abbrev dktX12_by_3 : List UInt8 := dkwX12_by_3 ++ []
def dkwX12_by_2 : List UInt8 := [42, 180, 0, 15, 32, 109, 43, 180, 0, 21, 22, 4, 109, 105, 42, 180, 0, 21, 22, 4, 109, 43]
abbrev dktX12_by_2 : List UInt8 := dkwX12_by_2 ++ dktX12_by_3
def dkwX12_by_1 : List UInt8 := [55, 4, 32, 9, 148, 154, 0, 15, 187, 0, 16, 89, 9, 10, 183, 0, 24, 167, 0, 38, 187, 0, 16, 89]
abbrev dktX12_by_1 : List UInt8 := dkwX12_by_1 ++ dktX12_by_2
def dkwX12_by_0 : List UInt8 := [42, 180, 0, 15, 43, 180, 0, 15, 184, 0, 7, 65, 42, 180, 0, 21, 43, 180, 0, 21, 184, 0, 7]
abbrev dktX12_by_0 : List UInt8 := dkwX12_by_0 ++ dktX12_by_1
theorem dksX12_by_0 : cX12_by.data.toList.drop 0 = dktX12_by_0 := by decide +kernel
theorem dksX12_by_1 : cX12_by.data.toList.drop 23 = dktX12_by_1 := dk_seg dksX12_by_0 23 rfl rfl
theorem dksX12_by_2 : cX12_by.data.toList.drop 47 = dktX12_by_2 := dk_seg dksX12_by_1 24 rfl rfl
theorem dksX12_by_3 : cX12_by.data.toList.drop 69 = dktX12_by_3 := dk_seg dksX12_by_2 22 rfl rfl
theorem dX12_by_0 : decode cX12_by 0 = .ok (.aload_n 0, 1) := dk_42 (dk_at dksX12_by_0 0 rfl rfl)
theorem dX12_by_1 : decode cX12_by 1 = .ok (.getfield 15, 3) := dk_180 0 15 (dk_at dksX12_by_0 1 rfl rfl)
theorem dX12_by_4 : decode cX12_by 4 = .ok (.aload_n 1, 1) := dk_43 (dk_at dksX12_by_0 4 rfl rfl)
theorem dX12_by_5 : decode cX12_by 5 = .ok (.getfield 15, 3) := dk_180 0 15 (dk_at dksX12_by_0 5 rfl rfl)
theorem dX12_by_8 : decode cX12_by 8 = .ok (.invokestatic 7, 3) := dk_184 0 7 (dk_at dksX12_by_0 8 rfl rfl)
theorem dX12_by_11 : decode cX12_by 11 = .ok (.lstore_n 2, 1) := dk_65 (dk_at dksX12_by_0 11 rfl rfl)
theorem dX12_by_12 : decode cX12_by 12 = .ok (.aload_n 0, 1) := dk_42 (dk_at dksX12_by_0 12 rfl rfl)
theorem dX12_by_13 : decode cX12_by 13 = .ok (.getfield 21, 3) := dk_180 0 21 (dk_at dksX12_by_0 13 rfl rfl)
theorem dX12_by_16 : decode cX12_by 16 = .ok (.aload_n 1, 1) := dk_43 (dk_at dksX12_by_0 16 rfl rfl)
theorem dX12_by_17 : decode cX12_by 17 = .ok (.getfield 21, 3) := dk_180 0 21 (dk_at dksX12_by_0 17 rfl rfl)
theorem dX12_by_20 : decode cX12_by 20 = .ok (.invokestatic 7, 3) := dk_184 0 7 (dk_at dksX12_by_0 20 rfl rfl)
theorem dX12_by_23 : decode cX12_by 23 = .ok (.lstore 4, 2) := dk_55 4 (dk_at dksX12_by_1 0 rfl rfl)
theorem dX12_by_25 : decode cX12_by 25 = .ok (.lload_n 2, 1) := dk_32 (dk_at dksX12_by_1 2 rfl rfl)
theorem dX12_by_26 : decode cX12_by 26 = .ok (.lconst 0, 1) := dk_9 (dk_at dksX12_by_1 3 rfl rfl)
theorem dX12_by_27 : decode cX12_by 27 = .ok (.lcmp, 1) := dk_148 (dk_at dksX12_by_1 4 rfl rfl)
theorem dX12_by_28 : decode cX12_by 28 = .ok (.ifCond .ne 15, 3) := dk_154 0 15 (dk_at dksX12_by_1 5 rfl rfl)
theorem dX12_by_31 : decode cX12_by 31 = .ok (.new 16, 3) := dk_187 0 16 (dk_at dksX12_by_1 8 rfl rfl)
theorem dX12_by_34 : decode cX12_by 34 = .ok (.dup, 1) := dk_89 (dk_at dksX12_by_1 11 rfl rfl)
theorem dX12_by_35 : decode cX12_by 35 = .ok (.lconst 0, 1) := dk_9 (dk_at dksX12_by_1 12 rfl rfl)
theorem dX12_by_36 : decode cX12_by 36 = .ok (.lconst 1, 1) := dk_10 (dk_at dksX12_by_1 13 rfl rfl)
theorem dX12_by_37 : decode cX12_by 37 = .ok (.invokespecial 24, 3) := dk_183 0 24 (dk_at dksX12_by_1 14 rfl rfl)
theorem dX12_by_40 : decode cX12_by 40 = .ok (.goto 38, 3) := dk_167 0 38 (dk_at dksX12_by_1 17 rfl rfl)
theorem dX12_by_43 : decode cX12_by 43 = .ok (.new 16, 3) := dk_187 0 16 (dk_at dksX12_by_1 20 rfl rfl)
theorem dX12_by_46 : decode cX12_by 46 = .ok (.dup, 1) := dk_89 (dk_at dksX12_by_1 23 rfl rfl)
theorem dX12_by_47 : decode cX12_by 47 = .ok (.aload_n 0, 1) := dk_42 (dk_at dksX12_by_2 0 rfl rfl)
theorem dX12_by_48 : decode cX12_by 48 = .ok (.getfield 15, 3) := dk_180 0 15 (dk_at dksX12_by_2 1 rfl rfl)
theorem dX12_by_51 : decode cX12_by 51 = .ok (.lload_n 2, 1) := dk_32 (dk_at dksX12_by_2 4 rfl rfl)
theorem dX12_by_52 : decode cX12_by 52 = .ok (.ldiv, 1) := dk_109 (dk_at dksX12_by_2 5 rfl rfl)
theorem dX12_by_53 : decode cX12_by 53 = .ok (.aload_n 1, 1) := dk_43 (dk_at dksX12_by_2 6 rfl rfl)
theorem dX12_by_54 : decode cX12_by 54 = .ok (.getfield 21, 3) := dk_180 0 21 (dk_at dksX12_by_2 7 rfl rfl)
theorem dX12_by_57 : decode cX12_by 57 = .ok (.lload 4, 2) := dk_22 4 (dk_at dksX12_by_2 10 rfl rfl)
theorem dX12_by_59 : decode cX12_by 59 = .ok (.ldiv, 1) := dk_109 (dk_at dksX12_by_2 12 rfl rfl)
theorem dX12_by_60 : decode cX12_by 60 = .ok (.lmul, 1) := dk_105 (dk_at dksX12_by_2 13 rfl rfl)
theorem dX12_by_61 : decode cX12_by 61 = .ok (.aload_n 0, 1) := dk_42 (dk_at dksX12_by_2 14 rfl rfl)
theorem dX12_by_62 : decode cX12_by 62 = .ok (.getfield 21, 3) := dk_180 0 21 (dk_at dksX12_by_2 15 rfl rfl)
theorem dX12_by_65 : decode cX12_by 65 = .ok (.lload 4, 2) := dk_22 4 (dk_at dksX12_by_2 18 rfl rfl)
theorem dX12_by_67 : decode cX12_by 67 = .ok (.ldiv, 1) := dk_109 (dk_at dksX12_by_2 20 rfl rfl)
theorem dX12_by_68 : decode cX12_by 68 = .ok (.aload_n 1, 1) := dk_43 (dk_at dksX12_by_2 21 rfl rfl)
theorem dX12_by_69 : decode cX12_by 69 = .ok (.getfield 15, 3) := dk_180 0 15 (dk_at dksX12_by_3 0 rfl rfl)
theorem dX12_by_72 : decode cX12_by 72 = .ok (.lload_n 2, 1) := dk_32 (dk_at dksX12_by_3 3 rfl rfl)
theorem dX12_by_73 : decode cX12_by 73 = .ok (.ldiv, 1) := dk_109 (dk_at dksX12_by_3 4 rfl rfl)
theorem dX12_by_74 : decode cX12_by 74 = .ok (.lmul, 1) := dk_105 (dk_at dksX12_by_3 5 rfl rfl)
theorem dX12_by_75 : decode cX12_by 75 = .ok (.invokespecial 24, 3) := dk_183 0 24 (dk_at dksX12_by_3 6 rfl rfl)
theorem dX12_by_78 : decode cX12_by 78 = .ok (.areturn, 1) := dk_176 (dk_at dksX12_by_3 9 rfl rfl)
abbrev cX12_thousandths : ByteArray := prog_7_method_6_code
def yX12_thousandths : MethodName := ⟨RX12, "thousandths", "()I"⟩
def dkwX12_thousandths_0 : List UInt8 := [42, 180, 0, 15, 137, 42, 180, 0, 21, 137, 110, 18, 31, 106, 139, 172]
abbrev dktX12_thousandths_0 : List UInt8 := dkwX12_thousandths_0 ++ []
theorem dksX12_thousandths_0 : cX12_thousandths.data.toList.drop 0 = dktX12_thousandths_0 := by decide +kernel
theorem dX12_thousandths_0 : decode cX12_thousandths 0 = .ok (.aload_n 0, 1) := dk_42 (dk_at dksX12_thousandths_0 0 rfl rfl)
theorem dX12_thousandths_1 : decode cX12_thousandths 1 = .ok (.getfield 15, 3) := dk_180 0 15 (dk_at dksX12_thousandths_0 1 rfl rfl)
theorem dX12_thousandths_4 : decode cX12_thousandths 4 = .ok (.l2f, 1) := dk_137 (dk_at dksX12_thousandths_0 4 rfl rfl)
theorem dX12_thousandths_5 : decode cX12_thousandths 5 = .ok (.aload_n 0, 1) := dk_42 (dk_at dksX12_thousandths_0 5 rfl rfl)
theorem dX12_thousandths_6 : decode cX12_thousandths 6 = .ok (.getfield 21, 3) := dk_180 0 21 (dk_at dksX12_thousandths_0 6 rfl rfl)
theorem dX12_thousandths_9 : decode cX12_thousandths 9 = .ok (.l2f, 1) := dk_137 (dk_at dksX12_thousandths_0 9 rfl rfl)
theorem dX12_thousandths_10 : decode cX12_thousandths 10 = .ok (.fdiv, 1) := dk_110 (dk_at dksX12_thousandths_0 10 rfl rfl)
theorem dX12_thousandths_11 : decode cX12_thousandths 11 = .ok (.ldc 31, 2) := dk_18 31 (dk_at dksX12_thousandths_0 11 rfl rfl)
theorem dX12_thousandths_13 : decode cX12_thousandths 13 = .ok (.fmul, 1) := dk_106 (dk_at dksX12_thousandths_0 13 rfl rfl)
theorem dX12_thousandths_14 : decode cX12_thousandths 14 = .ok (.f2i, 1) := dk_139 (dk_at dksX12_thousandths_0 14 rfl rfl)
theorem dX12_thousandths_15 : decode cX12_thousandths 15 = .ok (.ireturn, 1) := dk_172 (dk_at dksX12_thousandths_0 15 rfl rfl)
theorem q92 : (Jvm.Cond.initialized "ChainParts$Fraction") ∈ lw_all := lw_g (lw_at lw_m1 21 rfl) rfl
theorem q832 : (Jvm.Cond.instantiable "ChainParts$Fraction" (2 : Nat)) ∈ lw_all := lw_g (lw_at lw_m4 41 rfl) rfl
theorem q834 : (Jvm.Cond.instanceMethod ({ cls := "ChainParts$Fraction", name := "<init>", desc := "(JJ)V" } : Jvm.MethodName)) ∈ lw_all := lw_g (lw_at lw_m4 43 rfl) rfl
theorem q835 : (Jvm.Cond.code ({ cls := "ChainParts$Fraction", name := "<init>", desc := "(JJ)V" } : Jvm.MethodName) prog_7_method_1_code (7 : Nat) (Option.none : Option Jvm.ClassFile.FieldType)) ∈ lw_all := lw_g (lw_at lw_m4 44 rfl) rfl
theorem q836 : (Jvm.Cond.methodLink "ChainParts$Fraction" (1 : Nat) ({ cls := "java/lang/Object", name := "<init>", desc := "()V" } : Jvm.MethodName)) ∈ lw_all := lw_g (lw_at lw_m4 45 rfl) rfl
theorem q837 : (Jvm.Cond.methodLinkNest "ChainParts$Fraction" (7 : Nat) ({ cls := "ChainParts", name := "common", desc := "(JJ)J" } : Jvm.MethodName) "ChainParts") ∈ lw_tbl := lw_at lw_m4 46 rfl
theorem q838 : (Jvm.Cond.constantLong "ChainParts$Fraction" (13 : Nat) (-1 : Int64)) ∈ lw_all := lw_g (lw_at lw_m4 47 rfl) rfl
theorem q839 : (Jvm.Cond.fieldLink "ChainParts$Fraction" (15 : Nat) "ChainParts$Fraction" "above" "J") ∈ lw_all := lw_g (lw_at lw_m4 48 rfl) rfl
theorem q841 : (Jvm.Cond.fieldLink "ChainParts$Fraction" (21 : Nat) "ChainParts$Fraction" "below" "J") ∈ lw_all := lw_g (lw_at lw_m4 50 rfl) rfl
theorem q843 : (Jvm.Cond.laysFinal "ChainParts$Fraction" "ChainParts$Fraction" "above" "J") ∈ lw_all := lw_g (lw_at lw_m4 52 rfl) rfl
theorem q844 : (Jvm.Cond.soleField "ChainParts$Fraction" "above") ∈ lw_all := lw_g (lw_at lw_m4 53 rfl) rfl
theorem q845 : (Jvm.Cond.laysFinal "ChainParts$Fraction" "ChainParts$Fraction" "below" "J") ∈ lw_all := lw_g (lw_at lw_m4 54 rfl) rfl
theorem q846 : (Jvm.Cond.soleField "ChainParts$Fraction" "below") ∈ lw_all := lw_g (lw_at lw_m4 55 rfl) rfl
theorem q847 : (Jvm.Cond.superclass "ChainParts$Fraction" "java/lang/Object") ∈ lw_all := lw_g (lw_at lw_m4 56 rfl) rfl
theorem q854 : (Jvm.Cond.instanceMethod ({ cls := "ChainParts$Fraction", name := "minus", desc := "(LChainParts$Fraction;)LChainParts$Fraction;" } : Jvm.MethodName)) ∈ lw_all := lw_g (lw_at lw_m4 63 rfl) rfl
theorem q855 : (Jvm.Cond.selects "ChainParts$Fraction" ({ cls := "ChainParts$Fraction", name := "minus", desc := "(LChainParts$Fraction;)LChainParts$Fraction;" } : Jvm.MethodName) ({ cls := "ChainParts$Fraction", name := "minus", desc := "(LChainParts$Fraction;)LChainParts$Fraction;" } : Jvm.MethodName)) ∈ lw_all := lw_g (lw_at lw_m4 64 rfl) rfl
theorem q856 : (Jvm.Cond.code ({ cls := "ChainParts$Fraction", name := "minus", desc := "(LChainParts$Fraction;)LChainParts$Fraction;" } : Jvm.MethodName) prog_7_method_3_code (2 : Nat) (Option.some (Jvm.ClassFile.FieldType.object "ChainParts$Fraction"))) ∈ lw_all := lw_g (lw_at lw_m4 65 rfl) rfl
theorem q857 : (Jvm.Cond.classLink "ChainParts$Fraction" (16 : Nat) "ChainParts$Fraction") ∈ lw_all := lw_g (lw_at lw_m4 66 rfl) rfl
theorem q858 : (Jvm.Cond.methodLink "ChainParts$Fraction" (24 : Nat) ({ cls := "ChainParts$Fraction", name := "<init>", desc := "(JJ)V" } : Jvm.MethodName)) ∈ lw_all := lw_g (lw_at lw_m4 67 rfl) rfl
theorem q859 : (Jvm.Cond.methodLink "ChainParts$Fraction" (27 : Nat) ({ cls := "ChainParts$Fraction", name := "plus", desc := "(LChainParts$Fraction;)LChainParts$Fraction;" } : Jvm.MethodName)) ∈ lw_all := lw_g (lw_at lw_m4 68 rfl) rfl
theorem q860 : (Jvm.Cond.instanceMethod ({ cls := "ChainParts$Fraction", name := "plus", desc := "(LChainParts$Fraction;)LChainParts$Fraction;" } : Jvm.MethodName)) ∈ lw_all := lw_g (lw_at lw_m4 69 rfl) rfl
theorem q861 : (Jvm.Cond.selects "ChainParts$Fraction" ({ cls := "ChainParts$Fraction", name := "plus", desc := "(LChainParts$Fraction;)LChainParts$Fraction;" } : Jvm.MethodName) ({ cls := "ChainParts$Fraction", name := "plus", desc := "(LChainParts$Fraction;)LChainParts$Fraction;" } : Jvm.MethodName)) ∈ lw_all := lw_g (lw_at lw_m4 70 rfl) rfl
theorem q862 : (Jvm.Cond.code ({ cls := "ChainParts$Fraction", name := "plus", desc := "(LChainParts$Fraction;)LChainParts$Fraction;" } : Jvm.MethodName) prog_7_method_2_code (4 : Nat) (Option.some (Jvm.ClassFile.FieldType.object "ChainParts$Fraction"))) ∈ lw_all := lw_g (lw_at lw_m4 71 rfl) rfl
theorem q864 : (Jvm.Cond.instanceMethod ({ cls := "ChainParts$Fraction", name := "told", desc := "(I)J" } : Jvm.MethodName)) ∈ lw_all := lw_g (lw_at lw_m4 73 rfl) rfl
theorem q865 : (Jvm.Cond.selects "ChainParts$Fraction" ({ cls := "ChainParts$Fraction", name := "told", desc := "(I)J" } : Jvm.MethodName) ({ cls := "ChainParts$Fraction", name := "told", desc := "(I)J" } : Jvm.MethodName)) ∈ lw_all := lw_g (lw_at lw_m4 74 rfl) rfl
theorem q866 : (Jvm.Cond.code ({ cls := "ChainParts$Fraction", name := "told", desc := "(I)J" } : Jvm.MethodName) prog_7_method_5_code (2 : Nat) (Option.some Jvm.ClassFile.FieldType.long)) ∈ lw_all := lw_g (lw_at lw_m4 75 rfl) rfl
theorem q882 : (Jvm.Cond.instanceMethod ({ cls := "ChainParts$Fraction", name := "by", desc := "(LChainParts$Fraction;)LChainParts$Fraction;" } : Jvm.MethodName)) ∈ lw_all := lw_g (lw_at lw_m4 91 rfl) rfl
theorem q883 : (Jvm.Cond.selects "ChainParts$Fraction" ({ cls := "ChainParts$Fraction", name := "by", desc := "(LChainParts$Fraction;)LChainParts$Fraction;" } : Jvm.MethodName) ({ cls := "ChainParts$Fraction", name := "by", desc := "(LChainParts$Fraction;)LChainParts$Fraction;" } : Jvm.MethodName)) ∈ lw_all := lw_g (lw_at lw_m4 92 rfl) rfl
theorem q884 : (Jvm.Cond.code ({ cls := "ChainParts$Fraction", name := "by", desc := "(LChainParts$Fraction;)LChainParts$Fraction;" } : Jvm.MethodName) prog_7_method_4_code (6 : Nat) (Option.some (Jvm.ClassFile.FieldType.object "ChainParts$Fraction"))) ∈ lw_all := lw_g (lw_at lw_m4 93 rfl) rfl
theorem q886 : (Jvm.Cond.instanceMethod ({ cls := "ChainParts$Fraction", name := "thousandths", desc := "()I" } : Jvm.MethodName)) ∈ lw_all := lw_g (lw_at lw_m4 95 rfl) rfl
theorem q887 : (Jvm.Cond.selects "ChainParts$Fraction" ({ cls := "ChainParts$Fraction", name := "thousandths", desc := "()I" } : Jvm.MethodName) ({ cls := "ChainParts$Fraction", name := "thousandths", desc := "()I" } : Jvm.MethodName)) ∈ lw_all := lw_g (lw_at lw_m4 96 rfl) rfl
theorem q888 : (Jvm.Cond.code ({ cls := "ChainParts$Fraction", name := "thousandths", desc := "()I" } : Jvm.MethodName) prog_7_method_6_code (1 : Nat) (Option.some Jvm.ClassFile.FieldType.int)) ∈ lw_all := lw_g (lw_at lw_m4 97 rfl) rfl
theorem q889 : (Jvm.Cond.constantFloat "ChainParts$Fraction" (31 : Nat) (1148846080 : UInt32)) ∈ lw_all := lw_g (lw_at lw_m4 98 rfl) rfl
theorem in_X12 : ∀ w ∈ wsX120, w ∈ lw_all := lw_in wsX120 [843, 845] (by decide +kernel) (by decide +kernel)
/-! ChainParts$Reader -/
set_option maxRecDepth 100000
def RX2 : String := "ChainParts$Reader"
def TX2 : u_T := fun k => match k with
  | 0 => ("ChainParts$Reader", "text", "[B", true)
  | 1 => ("ChainParts$Reader", "size", "I", true)
  | _ => ("ChainParts$Reader", "at", "I", false)
def tyX2 : Nat → FieldType := fun k => match k with
  | 0 => .array .byte
  | 1 => .int
  | _ => .int
abbrev wsX20 : List Cond := u_ws RX2 TX2 3
theorem nmX2 : ∀ a, a < 3 → ∀ b, b < 3 → a ≠ b → (TX2 a).2.1 ≠ (TX2 b).2.1 := by decide +kernel
theorem tyX2_ok : ∀ k, k < 3 → parseFieldDescriptor (TX2 k).2.2.1 = some (tyX2 k) := by decide +kernel
abbrev cX2_init : ByteArray := prog_10_method_1_code
def yX2_init : MethodName := ⟨RX2, "<init>", "([BI)V"⟩
def dkwX2_init_0 : List UInt8 := [42, 183, 0, 3, 42, 43, 181, 0, 9, 42, 28, 181, 0, 15, 177]
abbrev dktX2_init_0 : List UInt8 := dkwX2_init_0 ++ []
theorem dksX2_init_0 : cX2_init.data.toList.drop 0 = dktX2_init_0 := by decide +kernel
theorem dX2_init_0 : decode cX2_init 0 = .ok (.aload_n 0, 1) := dk_42 (dk_at dksX2_init_0 0 rfl rfl)
theorem dX2_init_1 : decode cX2_init 1 = .ok (.invokespecial 3, 3) := dk_183 0 3 (dk_at dksX2_init_0 1 rfl rfl)
theorem dX2_init_4 : decode cX2_init 4 = .ok (.aload_n 0, 1) := dk_42 (dk_at dksX2_init_0 4 rfl rfl)
theorem dX2_init_5 : decode cX2_init 5 = .ok (.aload_n 1, 1) := dk_43 (dk_at dksX2_init_0 5 rfl rfl)
theorem dX2_init_6 : decode cX2_init 6 = .ok (.putfield 9, 3) := dk_181 0 9 (dk_at dksX2_init_0 6 rfl rfl)
theorem dX2_init_9 : decode cX2_init 9 = .ok (.aload_n 0, 1) := dk_42 (dk_at dksX2_init_0 9 rfl rfl)
theorem dX2_init_10 : decode cX2_init 10 = .ok (.iload_n 2, 1) := dk_28 (dk_at dksX2_init_0 10 rfl rfl)
theorem dX2_init_11 : decode cX2_init 11 = .ok (.putfield 15, 3) := dk_181 0 15 (dk_at dksX2_init_0 11 rfl rfl)
theorem dX2_init_14 : decode cX2_init 14 = .ok (.return_, 1) := dk_177 (dk_at dksX2_init_0 14 rfl rfl)
abbrev cX2_all : ByteArray := prog_10_method_10_code
def yX2_all : MethodName := ⟨RX2, "all", "()LChainParts$Complex;"⟩
def dkwX2_all_10 : List UInt8 := [184, 0, 67, 187, 0, 98, 89, 27, 25, 6, 25, 7, 6, 16, 6, 197, 0, 100, 2, 183, 0, 102, 176]
abbrev dktX2_all_10 : List UInt8 := dkwX2_all_10 ++ []
def dkwX2_all_9 : List UInt8 := [25, 6, 3, 29, 184, 0, 67, 21, 5, 189, 0, 88, 58, 7, 25, 4, 3, 25, 7, 3, 21, 5]
abbrev dktX2_all_9 : List UInt8 := dkwX2_all_9 ++ dktX2_all_10
def dkwX2_all_8 : List UInt8 := [182, 0, 52, 154, 0, 7, 4, 167, 0, 4, 3, 4, 182, 0, 48, 29, 189, 0, 60, 58, 6, 44, 3]
abbrev dktX2_all_8 : List UInt8 := dkwX2_all_8 ++ dktX2_all_9
def dkwX2_all_7 : List UInt8 := [42, 182, 0, 81, 25, 4, 21, 5, 132, 5, 1, 25, 7, 21, 6, 184, 0, 94, 83, 167, 255, 186, 42, 42]
abbrev dktX2_all_7 : List UInt8 := dkwX2_all_7 ++ dktX2_all_8
def dkwX2_all_6 : List UInt8 := [180, 0, 19, 4, 96, 181, 0, 19, 42, 4, 6, 182, 0, 77, 54, 6, 42, 44, 29, 182, 0, 90, 58, 7]
abbrev dktX2_all_6 : List UInt8 := dkwX2_all_6 ++ dktX2_all_7
def dkwX2_all_5 : List UInt8 := [16, 102, 160, 0, 67, 42, 21, 5, 7, 162, 0, 7, 4, 167, 0, 4, 3, 6, 182, 0, 48, 42, 89]
abbrev dktX2_all_5 : List UInt8 := dkwX2_all_5 ++ dktX2_all_6
def dkwX2_all_4 : List UInt8 := [83, 42, 182, 0, 81, 132, 3, 1, 167, 255, 178, 7, 189, 0, 88, 58, 4, 3, 54, 5, 42, 182, 0, 23]
abbrev dktX2_all_4 : List UInt8 := dkwX2_all_4 ++ dktX2_all_5
def dkwX2_all_3 : List UInt8 := [3, 27, 4, 100, 182, 0, 77, 54, 5, 44, 29, 21, 4, 21, 5, 42, 4, 6, 182, 0, 77, 184, 0, 84]
abbrev dktX2_all_3 : List UInt8 := dkwX2_all_3 ++ dktX2_all_4
def dkwX2_all_2 : List UInt8 := [182, 0, 48, 42, 89, 180, 0, 19, 4, 96, 181, 0, 19, 42, 3, 27, 4, 100, 182, 0, 77, 54, 4, 42]
abbrev dktX2_all_2 : List UInt8 := dkwX2_all_2 ++ dktX2_all_3
def dkwX2_all_1 : List UInt8 := [62, 42, 182, 0, 23, 16, 101, 160, 0, 75, 42, 29, 16, 6, 162, 0, 7, 4, 167, 0, 4, 3, 6]
abbrev dktX2_all_1 : List UInt8 := dkwX2_all_1 ++ dktX2_all_2
def dkwX2_all_0 : List UInt8 := [42, 16, 99, 182, 0, 73, 42, 4, 8, 182, 0, 77, 60, 42, 182, 0, 81, 16, 6, 189, 0, 60, 77, 3]
abbrev dktX2_all_0 : List UInt8 := dkwX2_all_0 ++ dktX2_all_1
theorem dksX2_all_0 : cX2_all.data.toList.drop 0 = dktX2_all_0 := by decide +kernel
theorem dksX2_all_1 : cX2_all.data.toList.drop 24 = dktX2_all_1 := dk_seg dksX2_all_0 24 rfl rfl
theorem dksX2_all_2 : cX2_all.data.toList.drop 47 = dktX2_all_2 := dk_seg dksX2_all_1 23 rfl rfl
theorem dksX2_all_3 : cX2_all.data.toList.drop 71 = dktX2_all_3 := dk_seg dksX2_all_2 24 rfl rfl
theorem dksX2_all_4 : cX2_all.data.toList.drop 95 = dktX2_all_4 := dk_seg dksX2_all_3 24 rfl rfl
theorem dksX2_all_5 : cX2_all.data.toList.drop 119 = dktX2_all_5 := dk_seg dksX2_all_4 24 rfl rfl
theorem dksX2_all_6 : cX2_all.data.toList.drop 142 = dktX2_all_6 := dk_seg dksX2_all_5 23 rfl rfl
theorem dksX2_all_7 : cX2_all.data.toList.drop 166 = dktX2_all_7 := dk_seg dksX2_all_6 24 rfl rfl
theorem dksX2_all_8 : cX2_all.data.toList.drop 190 = dktX2_all_8 := dk_seg dksX2_all_7 24 rfl rfl
theorem dksX2_all_9 : cX2_all.data.toList.drop 213 = dktX2_all_9 := dk_seg dksX2_all_8 23 rfl rfl
theorem dksX2_all_10 : cX2_all.data.toList.drop 235 = dktX2_all_10 := dk_seg dksX2_all_9 22 rfl rfl
theorem dX2_all_0 : decode cX2_all 0 = .ok (.aload_n 0, 1) := dk_42 (dk_at dksX2_all_0 0 rfl rfl)
theorem dX2_all_1 : decode cX2_all 1 = .ok (.bipush 99, 2) := dk_16 99 (dk_at dksX2_all_0 1 rfl rfl)
theorem dX2_all_3 : decode cX2_all 3 = .ok (.invokevirtual 73, 3) := dk_182 0 73 (dk_at dksX2_all_0 3 rfl rfl)
theorem dX2_all_6 : decode cX2_all 6 = .ok (.aload_n 0, 1) := dk_42 (dk_at dksX2_all_0 6 rfl rfl)
theorem dX2_all_7 : decode cX2_all 7 = .ok (.iconst 1, 1) := dk_4 (dk_at dksX2_all_0 7 rfl rfl)
theorem dX2_all_8 : decode cX2_all 8 = .ok (.iconst 5, 1) := dk_8 (dk_at dksX2_all_0 8 rfl rfl)
theorem dX2_all_9 : decode cX2_all 9 = .ok (.invokevirtual 77, 3) := dk_182 0 77 (dk_at dksX2_all_0 9 rfl rfl)
theorem dX2_all_12 : decode cX2_all 12 = .ok (.istore_n 1, 1) := dk_60 (dk_at dksX2_all_0 12 rfl rfl)
theorem dX2_all_13 : decode cX2_all 13 = .ok (.aload_n 0, 1) := dk_42 (dk_at dksX2_all_0 13 rfl rfl)
theorem dX2_all_14 : decode cX2_all 14 = .ok (.invokevirtual 81, 3) := dk_182 0 81 (dk_at dksX2_all_0 14 rfl rfl)
theorem dX2_all_17 : decode cX2_all 17 = .ok (.bipush 6, 2) := dk_16 6 (dk_at dksX2_all_0 17 rfl rfl)
theorem dX2_all_19 : decode cX2_all 19 = .ok (.anewarray 60, 3) := dk_189 0 60 (dk_at dksX2_all_0 19 rfl rfl)
theorem dX2_all_22 : decode cX2_all 22 = .ok (.astore_n 2, 1) := dk_77 (dk_at dksX2_all_0 22 rfl rfl)
theorem dX2_all_23 : decode cX2_all 23 = .ok (.iconst 0, 1) := dk_3 (dk_at dksX2_all_0 23 rfl rfl)
theorem dX2_all_24 : decode cX2_all 24 = .ok (.istore_n 3, 1) := dk_62 (dk_at dksX2_all_1 0 rfl rfl)
theorem dX2_all_25 : decode cX2_all 25 = .ok (.aload_n 0, 1) := dk_42 (dk_at dksX2_all_1 1 rfl rfl)
theorem dX2_all_26 : decode cX2_all 26 = .ok (.invokevirtual 23, 3) := dk_182 0 23 (dk_at dksX2_all_1 2 rfl rfl)
theorem dX2_all_29 : decode cX2_all 29 = .ok (.bipush 101, 2) := dk_16 101 (dk_at dksX2_all_1 5 rfl rfl)
theorem dX2_all_31 : decode cX2_all 31 = .ok (.if_icmp .ne 75, 3) := dk_160 0 75 (dk_at dksX2_all_1 7 rfl rfl)
theorem dX2_all_34 : decode cX2_all 34 = .ok (.aload_n 0, 1) := dk_42 (dk_at dksX2_all_1 10 rfl rfl)
theorem dX2_all_35 : decode cX2_all 35 = .ok (.iload_n 3, 1) := dk_29 (dk_at dksX2_all_1 11 rfl rfl)
theorem dX2_all_36 : decode cX2_all 36 = .ok (.bipush 6, 2) := dk_16 6 (dk_at dksX2_all_1 12 rfl rfl)
theorem dX2_all_38 : decode cX2_all 38 = .ok (.if_icmp .ge 7, 3) := dk_162 0 7 (dk_at dksX2_all_1 14 rfl rfl)
theorem dX2_all_41 : decode cX2_all 41 = .ok (.iconst 1, 1) := dk_4 (dk_at dksX2_all_1 17 rfl rfl)
theorem dX2_all_42 : decode cX2_all 42 = .ok (.goto 4, 3) := dk_167 0 4 (dk_at dksX2_all_1 18 rfl rfl)
theorem dX2_all_45 : decode cX2_all 45 = .ok (.iconst 0, 1) := dk_3 (dk_at dksX2_all_1 21 rfl rfl)
theorem dX2_all_46 : decode cX2_all 46 = .ok (.iconst 3, 1) := dk_6 (dk_at dksX2_all_1 22 rfl rfl)
theorem dX2_all_47 : decode cX2_all 47 = .ok (.invokevirtual 48, 3) := dk_182 0 48 (dk_at dksX2_all_2 0 rfl rfl)
theorem dX2_all_50 : decode cX2_all 50 = .ok (.aload_n 0, 1) := dk_42 (dk_at dksX2_all_2 3 rfl rfl)
theorem dX2_all_51 : decode cX2_all 51 = .ok (.dup, 1) := dk_89 (dk_at dksX2_all_2 4 rfl rfl)
theorem dX2_all_52 : decode cX2_all 52 = .ok (.getfield 19, 3) := dk_180 0 19 (dk_at dksX2_all_2 5 rfl rfl)
theorem dX2_all_55 : decode cX2_all 55 = .ok (.iconst 1, 1) := dk_4 (dk_at dksX2_all_2 8 rfl rfl)
theorem dX2_all_56 : decode cX2_all 56 = .ok (.iadd, 1) := dk_96 (dk_at dksX2_all_2 9 rfl rfl)
theorem dX2_all_57 : decode cX2_all 57 = .ok (.putfield 19, 3) := dk_181 0 19 (dk_at dksX2_all_2 10 rfl rfl)
theorem dX2_all_60 : decode cX2_all 60 = .ok (.aload_n 0, 1) := dk_42 (dk_at dksX2_all_2 13 rfl rfl)
theorem dX2_all_61 : decode cX2_all 61 = .ok (.iconst 0, 1) := dk_3 (dk_at dksX2_all_2 14 rfl rfl)
theorem dX2_all_62 : decode cX2_all 62 = .ok (.iload_n 1, 1) := dk_27 (dk_at dksX2_all_2 15 rfl rfl)
theorem dX2_all_63 : decode cX2_all 63 = .ok (.iconst 1, 1) := dk_4 (dk_at dksX2_all_2 16 rfl rfl)
theorem dX2_all_64 : decode cX2_all 64 = .ok (.isub, 1) := dk_100 (dk_at dksX2_all_2 17 rfl rfl)
theorem dX2_all_65 : decode cX2_all 65 = .ok (.invokevirtual 77, 3) := dk_182 0 77 (dk_at dksX2_all_2 18 rfl rfl)
theorem dX2_all_68 : decode cX2_all 68 = .ok (.istore 4, 2) := dk_54 4 (dk_at dksX2_all_2 21 rfl rfl)
theorem dX2_all_70 : decode cX2_all 70 = .ok (.aload_n 0, 1) := dk_42 (dk_at dksX2_all_2 23 rfl rfl)
theorem dX2_all_71 : decode cX2_all 71 = .ok (.iconst 0, 1) := dk_3 (dk_at dksX2_all_3 0 rfl rfl)
theorem dX2_all_72 : decode cX2_all 72 = .ok (.iload_n 1, 1) := dk_27 (dk_at dksX2_all_3 1 rfl rfl)
theorem dX2_all_73 : decode cX2_all 73 = .ok (.iconst 1, 1) := dk_4 (dk_at dksX2_all_3 2 rfl rfl)
theorem dX2_all_74 : decode cX2_all 74 = .ok (.isub, 1) := dk_100 (dk_at dksX2_all_3 3 rfl rfl)
theorem dX2_all_75 : decode cX2_all 75 = .ok (.invokevirtual 77, 3) := dk_182 0 77 (dk_at dksX2_all_3 4 rfl rfl)
theorem dX2_all_78 : decode cX2_all 78 = .ok (.istore 5, 2) := dk_54 5 (dk_at dksX2_all_3 7 rfl rfl)
theorem dX2_all_80 : decode cX2_all 80 = .ok (.aload_n 2, 1) := dk_44 (dk_at dksX2_all_3 9 rfl rfl)
theorem dX2_all_81 : decode cX2_all 81 = .ok (.iload_n 3, 1) := dk_29 (dk_at dksX2_all_3 10 rfl rfl)
theorem dX2_all_82 : decode cX2_all 82 = .ok (.iload 4, 2) := dk_21 4 (dk_at dksX2_all_3 11 rfl rfl)
theorem dX2_all_84 : decode cX2_all 84 = .ok (.iload 5, 2) := dk_21 5 (dk_at dksX2_all_3 13 rfl rfl)
theorem dX2_all_86 : decode cX2_all 86 = .ok (.aload_n 0, 1) := dk_42 (dk_at dksX2_all_3 15 rfl rfl)
theorem dX2_all_87 : decode cX2_all 87 = .ok (.iconst 1, 1) := dk_4 (dk_at dksX2_all_3 16 rfl rfl)
theorem dX2_all_88 : decode cX2_all 88 = .ok (.iconst 3, 1) := dk_6 (dk_at dksX2_all_3 17 rfl rfl)
theorem dX2_all_89 : decode cX2_all 89 = .ok (.invokevirtual 77, 3) := dk_182 0 77 (dk_at dksX2_all_3 18 rfl rfl)
theorem dX2_all_92 : decode cX2_all 92 = .ok (.invokestatic 84, 3) := dk_184 0 84 (dk_at dksX2_all_3 21 rfl rfl)
theorem dX2_all_95 : decode cX2_all 95 = .ok (.aastore, 1) := dk_83 (dk_at dksX2_all_4 0 rfl rfl)
theorem dX2_all_96 : decode cX2_all 96 = .ok (.aload_n 0, 1) := dk_42 (dk_at dksX2_all_4 1 rfl rfl)
theorem dX2_all_97 : decode cX2_all 97 = .ok (.invokevirtual 81, 3) := dk_182 0 81 (dk_at dksX2_all_4 2 rfl rfl)
theorem dX2_all_100 : decode cX2_all 100 = .ok (.iinc 3 1, 3) := dk_132 3 1 (dk_at dksX2_all_4 5 rfl rfl)
theorem dX2_all_103 : decode cX2_all 103 = .ok (.goto (-78), 3) := dk_167 255 178 (dk_at dksX2_all_4 8 rfl rfl)
theorem dX2_all_106 : decode cX2_all 106 = .ok (.iconst 4, 1) := dk_7 (dk_at dksX2_all_4 11 rfl rfl)
theorem dX2_all_107 : decode cX2_all 107 = .ok (.anewarray 88, 3) := dk_189 0 88 (dk_at dksX2_all_4 12 rfl rfl)
theorem dX2_all_110 : decode cX2_all 110 = .ok (.astore 4, 2) := dk_58 4 (dk_at dksX2_all_4 15 rfl rfl)
theorem dX2_all_112 : decode cX2_all 112 = .ok (.iconst 0, 1) := dk_3 (dk_at dksX2_all_4 17 rfl rfl)
theorem dX2_all_113 : decode cX2_all 113 = .ok (.istore 5, 2) := dk_54 5 (dk_at dksX2_all_4 18 rfl rfl)
theorem dX2_all_115 : decode cX2_all 115 = .ok (.aload_n 0, 1) := dk_42 (dk_at dksX2_all_4 20 rfl rfl)
theorem dX2_all_116 : decode cX2_all 116 = .ok (.invokevirtual 23, 3) := dk_182 0 23 (dk_at dksX2_all_4 21 rfl rfl)
theorem dX2_all_119 : decode cX2_all 119 = .ok (.bipush 102, 2) := dk_16 102 (dk_at dksX2_all_5 0 rfl rfl)
theorem dX2_all_121 : decode cX2_all 121 = .ok (.if_icmp .ne 67, 3) := dk_160 0 67 (dk_at dksX2_all_5 2 rfl rfl)
theorem dX2_all_124 : decode cX2_all 124 = .ok (.aload_n 0, 1) := dk_42 (dk_at dksX2_all_5 5 rfl rfl)
theorem dX2_all_125 : decode cX2_all 125 = .ok (.iload 5, 2) := dk_21 5 (dk_at dksX2_all_5 6 rfl rfl)
theorem dX2_all_127 : decode cX2_all 127 = .ok (.iconst 4, 1) := dk_7 (dk_at dksX2_all_5 8 rfl rfl)
theorem dX2_all_128 : decode cX2_all 128 = .ok (.if_icmp .ge 7, 3) := dk_162 0 7 (dk_at dksX2_all_5 9 rfl rfl)
theorem dX2_all_131 : decode cX2_all 131 = .ok (.iconst 1, 1) := dk_4 (dk_at dksX2_all_5 12 rfl rfl)
theorem dX2_all_132 : decode cX2_all 132 = .ok (.goto 4, 3) := dk_167 0 4 (dk_at dksX2_all_5 13 rfl rfl)
theorem dX2_all_135 : decode cX2_all 135 = .ok (.iconst 0, 1) := dk_3 (dk_at dksX2_all_5 16 rfl rfl)
theorem dX2_all_136 : decode cX2_all 136 = .ok (.iconst 3, 1) := dk_6 (dk_at dksX2_all_5 17 rfl rfl)
theorem dX2_all_137 : decode cX2_all 137 = .ok (.invokevirtual 48, 3) := dk_182 0 48 (dk_at dksX2_all_5 18 rfl rfl)
theorem dX2_all_140 : decode cX2_all 140 = .ok (.aload_n 0, 1) := dk_42 (dk_at dksX2_all_5 21 rfl rfl)
theorem dX2_all_141 : decode cX2_all 141 = .ok (.dup, 1) := dk_89 (dk_at dksX2_all_5 22 rfl rfl)
theorem dX2_all_142 : decode cX2_all 142 = .ok (.getfield 19, 3) := dk_180 0 19 (dk_at dksX2_all_6 0 rfl rfl)
theorem dX2_all_145 : decode cX2_all 145 = .ok (.iconst 1, 1) := dk_4 (dk_at dksX2_all_6 3 rfl rfl)
theorem dX2_all_146 : decode cX2_all 146 = .ok (.iadd, 1) := dk_96 (dk_at dksX2_all_6 4 rfl rfl)
theorem dX2_all_147 : decode cX2_all 147 = .ok (.putfield 19, 3) := dk_181 0 19 (dk_at dksX2_all_6 5 rfl rfl)
theorem dX2_all_150 : decode cX2_all 150 = .ok (.aload_n 0, 1) := dk_42 (dk_at dksX2_all_6 8 rfl rfl)
theorem dX2_all_151 : decode cX2_all 151 = .ok (.iconst 1, 1) := dk_4 (dk_at dksX2_all_6 9 rfl rfl)
theorem dX2_all_152 : decode cX2_all 152 = .ok (.iconst 3, 1) := dk_6 (dk_at dksX2_all_6 10 rfl rfl)
theorem dX2_all_153 : decode cX2_all 153 = .ok (.invokevirtual 77, 3) := dk_182 0 77 (dk_at dksX2_all_6 11 rfl rfl)
theorem dX2_all_156 : decode cX2_all 156 = .ok (.istore 6, 2) := dk_54 6 (dk_at dksX2_all_6 14 rfl rfl)
theorem dX2_all_158 : decode cX2_all 158 = .ok (.aload_n 0, 1) := dk_42 (dk_at dksX2_all_6 16 rfl rfl)
theorem dX2_all_159 : decode cX2_all 159 = .ok (.aload_n 2, 1) := dk_44 (dk_at dksX2_all_6 17 rfl rfl)
theorem dX2_all_160 : decode cX2_all 160 = .ok (.iload_n 3, 1) := dk_29 (dk_at dksX2_all_6 18 rfl rfl)
theorem dX2_all_161 : decode cX2_all 161 = .ok (.invokevirtual 90, 3) := dk_182 0 90 (dk_at dksX2_all_6 19 rfl rfl)
theorem dX2_all_164 : decode cX2_all 164 = .ok (.astore 7, 2) := dk_58 7 (dk_at dksX2_all_6 22 rfl rfl)
theorem dX2_all_166 : decode cX2_all 166 = .ok (.aload_n 0, 1) := dk_42 (dk_at dksX2_all_7 0 rfl rfl)
theorem dX2_all_167 : decode cX2_all 167 = .ok (.invokevirtual 81, 3) := dk_182 0 81 (dk_at dksX2_all_7 1 rfl rfl)
theorem dX2_all_170 : decode cX2_all 170 = .ok (.aload 4, 2) := dk_25 4 (dk_at dksX2_all_7 4 rfl rfl)
theorem dX2_all_172 : decode cX2_all 172 = .ok (.iload 5, 2) := dk_21 5 (dk_at dksX2_all_7 6 rfl rfl)
theorem dX2_all_174 : decode cX2_all 174 = .ok (.iinc 5 1, 3) := dk_132 5 1 (dk_at dksX2_all_7 8 rfl rfl)
theorem dX2_all_177 : decode cX2_all 177 = .ok (.aload 7, 2) := dk_25 7 (dk_at dksX2_all_7 11 rfl rfl)
theorem dX2_all_179 : decode cX2_all 179 = .ok (.iload 6, 2) := dk_21 6 (dk_at dksX2_all_7 13 rfl rfl)
theorem dX2_all_181 : decode cX2_all 181 = .ok (.invokestatic 94, 3) := dk_184 0 94 (dk_at dksX2_all_7 15 rfl rfl)
theorem dX2_all_184 : decode cX2_all 184 = .ok (.aastore, 1) := dk_83 (dk_at dksX2_all_7 18 rfl rfl)
theorem dX2_all_185 : decode cX2_all 185 = .ok (.goto (-70), 3) := dk_167 255 186 (dk_at dksX2_all_7 19 rfl rfl)
theorem dX2_all_188 : decode cX2_all 188 = .ok (.aload_n 0, 1) := dk_42 (dk_at dksX2_all_7 22 rfl rfl)
theorem dX2_all_189 : decode cX2_all 189 = .ok (.aload_n 0, 1) := dk_42 (dk_at dksX2_all_7 23 rfl rfl)
theorem dX2_all_190 : decode cX2_all 190 = .ok (.invokevirtual 52, 3) := dk_182 0 52 (dk_at dksX2_all_8 0 rfl rfl)
theorem dX2_all_193 : decode cX2_all 193 = .ok (.ifCond .ne 7, 3) := dk_154 0 7 (dk_at dksX2_all_8 3 rfl rfl)
theorem dX2_all_196 : decode cX2_all 196 = .ok (.iconst 1, 1) := dk_4 (dk_at dksX2_all_8 6 rfl rfl)
theorem dX2_all_197 : decode cX2_all 197 = .ok (.goto 4, 3) := dk_167 0 4 (dk_at dksX2_all_8 7 rfl rfl)
theorem dX2_all_200 : decode cX2_all 200 = .ok (.iconst 0, 1) := dk_3 (dk_at dksX2_all_8 10 rfl rfl)
theorem dX2_all_201 : decode cX2_all 201 = .ok (.iconst 1, 1) := dk_4 (dk_at dksX2_all_8 11 rfl rfl)
theorem dX2_all_202 : decode cX2_all 202 = .ok (.invokevirtual 48, 3) := dk_182 0 48 (dk_at dksX2_all_8 12 rfl rfl)
theorem dX2_all_205 : decode cX2_all 205 = .ok (.iload_n 3, 1) := dk_29 (dk_at dksX2_all_8 15 rfl rfl)
theorem dX2_all_206 : decode cX2_all 206 = .ok (.anewarray 60, 3) := dk_189 0 60 (dk_at dksX2_all_8 16 rfl rfl)
theorem dX2_all_209 : decode cX2_all 209 = .ok (.astore 6, 2) := dk_58 6 (dk_at dksX2_all_8 19 rfl rfl)
theorem dX2_all_211 : decode cX2_all 211 = .ok (.aload_n 2, 1) := dk_44 (dk_at dksX2_all_8 21 rfl rfl)
theorem dX2_all_212 : decode cX2_all 212 = .ok (.iconst 0, 1) := dk_3 (dk_at dksX2_all_8 22 rfl rfl)
theorem dX2_all_213 : decode cX2_all 213 = .ok (.aload 6, 2) := dk_25 6 (dk_at dksX2_all_9 0 rfl rfl)
theorem dX2_all_215 : decode cX2_all 215 = .ok (.iconst 0, 1) := dk_3 (dk_at dksX2_all_9 2 rfl rfl)
theorem dX2_all_216 : decode cX2_all 216 = .ok (.iload_n 3, 1) := dk_29 (dk_at dksX2_all_9 3 rfl rfl)
theorem dX2_all_217 : decode cX2_all 217 = .ok (.invokestatic 67, 3) := dk_184 0 67 (dk_at dksX2_all_9 4 rfl rfl)
theorem dX2_all_220 : decode cX2_all 220 = .ok (.iload 5, 2) := dk_21 5 (dk_at dksX2_all_9 7 rfl rfl)
theorem dX2_all_222 : decode cX2_all 222 = .ok (.anewarray 88, 3) := dk_189 0 88 (dk_at dksX2_all_9 9 rfl rfl)
theorem dX2_all_225 : decode cX2_all 225 = .ok (.astore 7, 2) := dk_58 7 (dk_at dksX2_all_9 12 rfl rfl)
theorem dX2_all_227 : decode cX2_all 227 = .ok (.aload 4, 2) := dk_25 4 (dk_at dksX2_all_9 14 rfl rfl)
theorem dX2_all_229 : decode cX2_all 229 = .ok (.iconst 0, 1) := dk_3 (dk_at dksX2_all_9 16 rfl rfl)
theorem dX2_all_230 : decode cX2_all 230 = .ok (.aload 7, 2) := dk_25 7 (dk_at dksX2_all_9 17 rfl rfl)
theorem dX2_all_232 : decode cX2_all 232 = .ok (.iconst 0, 1) := dk_3 (dk_at dksX2_all_9 19 rfl rfl)
theorem dX2_all_233 : decode cX2_all 233 = .ok (.iload 5, 2) := dk_21 5 (dk_at dksX2_all_9 20 rfl rfl)
theorem dX2_all_235 : decode cX2_all 235 = .ok (.invokestatic 67, 3) := dk_184 0 67 (dk_at dksX2_all_10 0 rfl rfl)
theorem dX2_all_238 : decode cX2_all 238 = .ok (.new 98, 3) := dk_187 0 98 (dk_at dksX2_all_10 3 rfl rfl)
theorem dX2_all_241 : decode cX2_all 241 = .ok (.dup, 1) := dk_89 (dk_at dksX2_all_10 6 rfl rfl)
theorem dX2_all_242 : decode cX2_all 242 = .ok (.iload_n 1, 1) := dk_27 (dk_at dksX2_all_10 7 rfl rfl)
theorem dX2_all_243 : decode cX2_all 243 = .ok (.aload 6, 2) := dk_25 6 (dk_at dksX2_all_10 8 rfl rfl)
theorem dX2_all_245 : decode cX2_all 245 = .ok (.aload 7, 2) := dk_25 7 (dk_at dksX2_all_10 10 rfl rfl)
theorem dX2_all_247 : decode cX2_all 247 = .ok (.iconst 3, 1) := dk_6 (dk_at dksX2_all_10 12 rfl rfl)
theorem dX2_all_248 : decode cX2_all 248 = .ok (.bipush 6, 2) := dk_16 6 (dk_at dksX2_all_10 13 rfl rfl)
theorem dX2_all_250 : decode cX2_all 250 = .ok (.multianewarray 100 2, 4) := by decide +kernel
theorem dX2_all_254 : decode cX2_all 254 = .ok (.invokespecial 102, 3) := dk_183 0 102 (dk_at dksX2_all_10 19 rfl rfl)
theorem dX2_all_257 : decode cX2_all 257 = .ok (.areturn, 1) := dk_176 (dk_at dksX2_all_10 22 rfl rfl)
abbrev cX2_letter : ByteArray := prog_10_method_5_code
def yX2_letter : MethodName := ⟨RX2, "letter", "(I)V"⟩
def dkwX2_letter_1 : List UInt8 := [96, 181, 0, 19, 177]
abbrev dktX2_letter_1 : List UInt8 := dkwX2_letter_1 ++ []
def dkwX2_letter_0 : List UInt8 := [42, 42, 182, 0, 23, 27, 160, 0, 7, 4, 167, 0, 4, 3, 4, 182, 0, 48, 42, 89, 180, 0, 19, 4]
abbrev dktX2_letter_0 : List UInt8 := dkwX2_letter_0 ++ dktX2_letter_1
theorem dksX2_letter_0 : cX2_letter.data.toList.drop 0 = dktX2_letter_0 := by decide +kernel
theorem dksX2_letter_1 : cX2_letter.data.toList.drop 24 = dktX2_letter_1 := dk_seg dksX2_letter_0 24 rfl rfl
theorem dX2_letter_0 : decode cX2_letter 0 = .ok (.aload_n 0, 1) := dk_42 (dk_at dksX2_letter_0 0 rfl rfl)
theorem dX2_letter_1 : decode cX2_letter 1 = .ok (.aload_n 0, 1) := dk_42 (dk_at dksX2_letter_0 1 rfl rfl)
theorem dX2_letter_2 : decode cX2_letter 2 = .ok (.invokevirtual 23, 3) := dk_182 0 23 (dk_at dksX2_letter_0 2 rfl rfl)
theorem dX2_letter_5 : decode cX2_letter 5 = .ok (.iload_n 1, 1) := dk_27 (dk_at dksX2_letter_0 5 rfl rfl)
theorem dX2_letter_6 : decode cX2_letter 6 = .ok (.if_icmp .ne 7, 3) := dk_160 0 7 (dk_at dksX2_letter_0 6 rfl rfl)
theorem dX2_letter_9 : decode cX2_letter 9 = .ok (.iconst 1, 1) := dk_4 (dk_at dksX2_letter_0 9 rfl rfl)
theorem dX2_letter_10 : decode cX2_letter 10 = .ok (.goto 4, 3) := dk_167 0 4 (dk_at dksX2_letter_0 10 rfl rfl)
theorem dX2_letter_13 : decode cX2_letter 13 = .ok (.iconst 0, 1) := dk_3 (dk_at dksX2_letter_0 13 rfl rfl)
theorem dX2_letter_14 : decode cX2_letter 14 = .ok (.iconst 1, 1) := dk_4 (dk_at dksX2_letter_0 14 rfl rfl)
theorem dX2_letter_15 : decode cX2_letter 15 = .ok (.invokevirtual 48, 3) := dk_182 0 48 (dk_at dksX2_letter_0 15 rfl rfl)
theorem dX2_letter_18 : decode cX2_letter 18 = .ok (.aload_n 0, 1) := dk_42 (dk_at dksX2_letter_0 18 rfl rfl)
theorem dX2_letter_19 : decode cX2_letter 19 = .ok (.dup, 1) := dk_89 (dk_at dksX2_letter_0 19 rfl rfl)
theorem dX2_letter_20 : decode cX2_letter 20 = .ok (.getfield 19, 3) := dk_180 0 19 (dk_at dksX2_letter_0 20 rfl rfl)
theorem dX2_letter_23 : decode cX2_letter 23 = .ok (.iconst 1, 1) := dk_4 (dk_at dksX2_letter_0 23 rfl rfl)
theorem dX2_letter_24 : decode cX2_letter 24 = .ok (.iadd, 1) := dk_96 (dk_at dksX2_letter_1 0 rfl rfl)
theorem dX2_letter_25 : decode cX2_letter 25 = .ok (.putfield 19, 3) := dk_181 0 19 (dk_at dksX2_letter_1 1 rfl rfl)
theorem dX2_letter_28 : decode cX2_letter 28 = .ok (.return_, 1) := dk_177 (dk_at dksX2_letter_1 4 rfl rfl)
abbrev cX2_look : ByteArray := prog_10_method_2_code
def yX2_look : MethodName := ⟨RX2, "look", "()I"⟩
def dkwX2_look_1 : List UInt8 := [167, 0, 5, 18, 22, 172]
abbrev dktX2_look_1 : List UInt8 := dkwX2_look_1 ++ []
def dkwX2_look_0 : List UInt8 := [42, 180, 0, 19, 42, 180, 0, 15, 162, 0, 19, 42, 180, 0, 9, 42, 180, 0, 19, 51, 17, 0, 255, 126]
abbrev dktX2_look_0 : List UInt8 := dkwX2_look_0 ++ dktX2_look_1
theorem dksX2_look_0 : cX2_look.data.toList.drop 0 = dktX2_look_0 := by decide +kernel
theorem dksX2_look_1 : cX2_look.data.toList.drop 24 = dktX2_look_1 := dk_seg dksX2_look_0 24 rfl rfl
theorem dX2_look_0 : decode cX2_look 0 = .ok (.aload_n 0, 1) := dk_42 (dk_at dksX2_look_0 0 rfl rfl)
theorem dX2_look_1 : decode cX2_look 1 = .ok (.getfield 19, 3) := dk_180 0 19 (dk_at dksX2_look_0 1 rfl rfl)
theorem dX2_look_4 : decode cX2_look 4 = .ok (.aload_n 0, 1) := dk_42 (dk_at dksX2_look_0 4 rfl rfl)
theorem dX2_look_5 : decode cX2_look 5 = .ok (.getfield 15, 3) := dk_180 0 15 (dk_at dksX2_look_0 5 rfl rfl)
theorem dX2_look_8 : decode cX2_look 8 = .ok (.if_icmp .ge 19, 3) := dk_162 0 19 (dk_at dksX2_look_0 8 rfl rfl)
theorem dX2_look_11 : decode cX2_look 11 = .ok (.aload_n 0, 1) := dk_42 (dk_at dksX2_look_0 11 rfl rfl)
theorem dX2_look_12 : decode cX2_look 12 = .ok (.getfield 9, 3) := dk_180 0 9 (dk_at dksX2_look_0 12 rfl rfl)
theorem dX2_look_15 : decode cX2_look 15 = .ok (.aload_n 0, 1) := dk_42 (dk_at dksX2_look_0 15 rfl rfl)
theorem dX2_look_16 : decode cX2_look 16 = .ok (.getfield 19, 3) := dk_180 0 19 (dk_at dksX2_look_0 16 rfl rfl)
theorem dX2_look_19 : decode cX2_look 19 = .ok (.baload, 1) := dk_51 (dk_at dksX2_look_0 19 rfl rfl)
theorem dX2_look_20 : decode cX2_look 20 = .ok (.sipush 255, 3) := dk_17 0 255 (dk_at dksX2_look_0 20 rfl rfl)
theorem dX2_look_23 : decode cX2_look 23 = .ok (.iand, 1) := dk_126 (dk_at dksX2_look_0 23 rfl rfl)
theorem dX2_look_24 : decode cX2_look 24 = .ok (.goto 5, 3) := dk_167 0 5 (dk_at dksX2_look_1 0 rfl rfl)
theorem dX2_look_27 : decode cX2_look 27 = .ok (.ldc 22, 2) := dk_18 22 (dk_at dksX2_look_1 3 rfl rfl)
theorem dX2_look_29 : decode cX2_look 29 = .ok (.ireturn, 1) := dk_172 (dk_at dksX2_look_1 5 rfl rfl)
abbrev cX2_must : ByteArray := prog_10_method_4_code
def yX2_must : MethodName := ⟨RX2, "must", "(ZI)V"⟩
def dkwX2_must_0 : List UInt8 := [27, 154, 0, 16, 187, 0, 43, 89, 28, 42, 180, 0, 19, 183, 0, 45, 191, 177]
abbrev dktX2_must_0 : List UInt8 := dkwX2_must_0 ++ []
theorem dksX2_must_0 : cX2_must.data.toList.drop 0 = dktX2_must_0 := by decide +kernel
theorem dX2_must_0 : decode cX2_must 0 = .ok (.iload_n 1, 1) := dk_27 (dk_at dksX2_must_0 0 rfl rfl)
theorem dX2_must_1 : decode cX2_must 1 = .ok (.ifCond .ne 16, 3) := dk_154 0 16 (dk_at dksX2_must_0 1 rfl rfl)
theorem dX2_must_4 : decode cX2_must 4 = .ok (.new 43, 3) := dk_187 0 43 (dk_at dksX2_must_0 4 rfl rfl)
theorem dX2_must_7 : decode cX2_must 7 = .ok (.dup, 1) := dk_89 (dk_at dksX2_must_0 7 rfl rfl)
theorem dX2_must_8 : decode cX2_must 8 = .ok (.iload_n 2, 1) := dk_28 (dk_at dksX2_must_0 8 rfl rfl)
theorem dX2_must_9 : decode cX2_must 9 = .ok (.aload_n 0, 1) := dk_42 (dk_at dksX2_must_0 9 rfl rfl)
theorem dX2_must_10 : decode cX2_must 10 = .ok (.getfield 19, 3) := dk_180 0 19 (dk_at dksX2_must_0 10 rfl rfl)
theorem dX2_must_13 : decode cX2_must 13 = .ok (.invokespecial 45, 3) := dk_183 0 45 (dk_at dksX2_must_0 13 rfl rfl)
theorem dX2_must_16 : decode cX2_must 16 = .ok (.athrow, 1) := dk_191 (dk_at dksX2_must_0 16 rfl rfl)
theorem dX2_must_17 : decode cX2_must 17 = .ok (.return_, 1) := dk_177 (dk_at dksX2_must_0 17 rfl rfl)
abbrev cX2_digit : ByteArray := prog_10_method_6_code
def yX2_digit : MethodName := ⟨RX2, "digit", "(II)I"⟩
def dkwX2_digit_2 : List UInt8 := [181, 0, 19, 29, 172]
abbrev dktX2_digit_2 : List UInt8 := dkwX2_digit_2 ++ []
def dkwX2_digit_1 : List UInt8 := [100, 62, 42, 29, 133, 27, 133, 28, 133, 184, 0, 31, 5, 182, 0, 48, 42, 89, 180, 0, 19, 4, 96]
abbrev dktX2_digit_1 : List UInt8 := dkwX2_digit_1 ++ dktX2_digit_2
def dkwX2_digit_0 : List UInt8 := [42, 42, 182, 0, 52, 5, 160, 0, 7, 4, 167, 0, 4, 3, 4, 182, 0, 48, 42, 182, 0, 23, 16, 48]
abbrev dktX2_digit_0 : List UInt8 := dkwX2_digit_0 ++ dktX2_digit_1
theorem dksX2_digit_0 : cX2_digit.data.toList.drop 0 = dktX2_digit_0 := by decide +kernel
theorem dksX2_digit_1 : cX2_digit.data.toList.drop 24 = dktX2_digit_1 := dk_seg dksX2_digit_0 24 rfl rfl
theorem dksX2_digit_2 : cX2_digit.data.toList.drop 47 = dktX2_digit_2 := dk_seg dksX2_digit_1 23 rfl rfl
theorem dX2_digit_0 : decode cX2_digit 0 = .ok (.aload_n 0, 1) := dk_42 (dk_at dksX2_digit_0 0 rfl rfl)
theorem dX2_digit_1 : decode cX2_digit 1 = .ok (.aload_n 0, 1) := dk_42 (dk_at dksX2_digit_0 1 rfl rfl)
theorem dX2_digit_2 : decode cX2_digit 2 = .ok (.invokevirtual 52, 3) := dk_182 0 52 (dk_at dksX2_digit_0 2 rfl rfl)
theorem dX2_digit_5 : decode cX2_digit 5 = .ok (.iconst 2, 1) := dk_5 (dk_at dksX2_digit_0 5 rfl rfl)
theorem dX2_digit_6 : decode cX2_digit 6 = .ok (.if_icmp .ne 7, 3) := dk_160 0 7 (dk_at dksX2_digit_0 6 rfl rfl)
theorem dX2_digit_9 : decode cX2_digit 9 = .ok (.iconst 1, 1) := dk_4 (dk_at dksX2_digit_0 9 rfl rfl)
theorem dX2_digit_10 : decode cX2_digit 10 = .ok (.goto 4, 3) := dk_167 0 4 (dk_at dksX2_digit_0 10 rfl rfl)
theorem dX2_digit_13 : decode cX2_digit 13 = .ok (.iconst 0, 1) := dk_3 (dk_at dksX2_digit_0 13 rfl rfl)
theorem dX2_digit_14 : decode cX2_digit 14 = .ok (.iconst 1, 1) := dk_4 (dk_at dksX2_digit_0 14 rfl rfl)
theorem dX2_digit_15 : decode cX2_digit 15 = .ok (.invokevirtual 48, 3) := dk_182 0 48 (dk_at dksX2_digit_0 15 rfl rfl)
theorem dX2_digit_18 : decode cX2_digit 18 = .ok (.aload_n 0, 1) := dk_42 (dk_at dksX2_digit_0 18 rfl rfl)
theorem dX2_digit_19 : decode cX2_digit 19 = .ok (.invokevirtual 23, 3) := dk_182 0 23 (dk_at dksX2_digit_0 19 rfl rfl)
theorem dX2_digit_22 : decode cX2_digit 22 = .ok (.bipush 48, 2) := dk_16 48 (dk_at dksX2_digit_0 22 rfl rfl)
theorem dX2_digit_24 : decode cX2_digit 24 = .ok (.isub, 1) := dk_100 (dk_at dksX2_digit_1 0 rfl rfl)
theorem dX2_digit_25 : decode cX2_digit 25 = .ok (.istore_n 3, 1) := dk_62 (dk_at dksX2_digit_1 1 rfl rfl)
theorem dX2_digit_26 : decode cX2_digit 26 = .ok (.aload_n 0, 1) := dk_42 (dk_at dksX2_digit_1 2 rfl rfl)
theorem dX2_digit_27 : decode cX2_digit 27 = .ok (.iload_n 3, 1) := dk_29 (dk_at dksX2_digit_1 3 rfl rfl)
theorem dX2_digit_28 : decode cX2_digit 28 = .ok (.i2l, 1) := dk_133 (dk_at dksX2_digit_1 4 rfl rfl)
theorem dX2_digit_29 : decode cX2_digit 29 = .ok (.iload_n 1, 1) := dk_27 (dk_at dksX2_digit_1 5 rfl rfl)
theorem dX2_digit_30 : decode cX2_digit 30 = .ok (.i2l, 1) := dk_133 (dk_at dksX2_digit_1 6 rfl rfl)
theorem dX2_digit_31 : decode cX2_digit 31 = .ok (.iload_n 2, 1) := dk_28 (dk_at dksX2_digit_1 7 rfl rfl)
theorem dX2_digit_32 : decode cX2_digit 32 = .ok (.i2l, 1) := dk_133 (dk_at dksX2_digit_1 8 rfl rfl)
theorem dX2_digit_33 : decode cX2_digit 33 = .ok (.invokestatic 31, 3) := dk_184 0 31 (dk_at dksX2_digit_1 9 rfl rfl)
theorem dX2_digit_36 : decode cX2_digit 36 = .ok (.iconst 2, 1) := dk_5 (dk_at dksX2_digit_1 12 rfl rfl)
theorem dX2_digit_37 : decode cX2_digit 37 = .ok (.invokevirtual 48, 3) := dk_182 0 48 (dk_at dksX2_digit_1 13 rfl rfl)
theorem dX2_digit_40 : decode cX2_digit 40 = .ok (.aload_n 0, 1) := dk_42 (dk_at dksX2_digit_1 16 rfl rfl)
theorem dX2_digit_41 : decode cX2_digit 41 = .ok (.dup, 1) := dk_89 (dk_at dksX2_digit_1 17 rfl rfl)
theorem dX2_digit_42 : decode cX2_digit 42 = .ok (.getfield 19, 3) := dk_180 0 19 (dk_at dksX2_digit_1 18 rfl rfl)
theorem dX2_digit_45 : decode cX2_digit 45 = .ok (.iconst 1, 1) := dk_4 (dk_at dksX2_digit_1 21 rfl rfl)
theorem dX2_digit_46 : decode cX2_digit 46 = .ok (.iadd, 1) := dk_96 (dk_at dksX2_digit_1 22 rfl rfl)
theorem dX2_digit_47 : decode cX2_digit 47 = .ok (.putfield 19, 3) := dk_181 0 19 (dk_at dksX2_digit_2 0 rfl rfl)
theorem dX2_digit_50 : decode cX2_digit 50 = .ok (.iload_n 3, 1) := dk_29 (dk_at dksX2_digit_2 3 rfl rfl)
theorem dX2_digit_51 : decode cX2_digit 51 = .ok (.ireturn, 1) := dk_172 (dk_at dksX2_digit_2 4 rfl rfl)
abbrev cX2_token : ByteArray := prog_10_method_3_code
def yX2_token : MethodName := ⟨RX2, "token", "()I"⟩
def dkwX2_token_3 : List UInt8 := [6, 167, 0, 4, 7, 172]
abbrev dktX2_token_3 : List UInt8 := dkwX2_token_3 ++ []
def dkwX2_token_2 : List UInt8 := [27, 133, 20, 0, 39, 20, 0, 41, 184, 0, 31, 153, 0, 7, 5, 167, 0, 14, 27, 16, 59, 160, 0, 7]
abbrev dktX2_token_2 : List UInt8 := dkwX2_token_2 ++ dktX2_token_3
def dkwX2_token_1 : List UInt8 := [184, 0, 31, 154, 0, 17, 27, 133, 20, 0, 35, 20, 0, 37, 184, 0, 31, 153, 0, 7, 4, 167, 0, 32]
abbrev dktX2_token_1 : List UInt8 := dkwX2_token_1 ++ dktX2_token_2
def dkwX2_token_0 : List UInt8 := [42, 182, 0, 23, 60, 27, 18, 22, 160, 0, 7, 3, 167, 0, 64, 27, 133, 20, 0, 27, 20, 0, 29]
abbrev dktX2_token_0 : List UInt8 := dkwX2_token_0 ++ dktX2_token_1
theorem dksX2_token_0 : cX2_token.data.toList.drop 0 = dktX2_token_0 := by decide +kernel
theorem dksX2_token_1 : cX2_token.data.toList.drop 23 = dktX2_token_1 := dk_seg dksX2_token_0 23 rfl rfl
theorem dksX2_token_2 : cX2_token.data.toList.drop 47 = dktX2_token_2 := dk_seg dksX2_token_1 24 rfl rfl
theorem dksX2_token_3 : cX2_token.data.toList.drop 71 = dktX2_token_3 := dk_seg dksX2_token_2 24 rfl rfl
theorem dX2_token_0 : decode cX2_token 0 = .ok (.aload_n 0, 1) := dk_42 (dk_at dksX2_token_0 0 rfl rfl)
theorem dX2_token_1 : decode cX2_token 1 = .ok (.invokevirtual 23, 3) := dk_182 0 23 (dk_at dksX2_token_0 1 rfl rfl)
theorem dX2_token_4 : decode cX2_token 4 = .ok (.istore_n 1, 1) := dk_60 (dk_at dksX2_token_0 4 rfl rfl)
theorem dX2_token_5 : decode cX2_token 5 = .ok (.iload_n 1, 1) := dk_27 (dk_at dksX2_token_0 5 rfl rfl)
theorem dX2_token_6 : decode cX2_token 6 = .ok (.ldc 22, 2) := dk_18 22 (dk_at dksX2_token_0 6 rfl rfl)
theorem dX2_token_8 : decode cX2_token 8 = .ok (.if_icmp .ne 7, 3) := dk_160 0 7 (dk_at dksX2_token_0 8 rfl rfl)
theorem dX2_token_11 : decode cX2_token 11 = .ok (.iconst 0, 1) := dk_3 (dk_at dksX2_token_0 11 rfl rfl)
theorem dX2_token_12 : decode cX2_token 12 = .ok (.goto 64, 3) := dk_167 0 64 (dk_at dksX2_token_0 12 rfl rfl)
theorem dX2_token_15 : decode cX2_token 15 = .ok (.iload_n 1, 1) := dk_27 (dk_at dksX2_token_0 15 rfl rfl)
theorem dX2_token_16 : decode cX2_token 16 = .ok (.i2l, 1) := dk_133 (dk_at dksX2_token_0 16 rfl rfl)
theorem dX2_token_17 : decode cX2_token 17 = .ok (.ldc2_w 27, 3) := dk_20 0 27 (dk_at dksX2_token_0 17 rfl rfl)
theorem dX2_token_20 : decode cX2_token 20 = .ok (.ldc2_w 29, 3) := dk_20 0 29 (dk_at dksX2_token_0 20 rfl rfl)
theorem dX2_token_23 : decode cX2_token 23 = .ok (.invokestatic 31, 3) := dk_184 0 31 (dk_at dksX2_token_1 0 rfl rfl)
theorem dX2_token_26 : decode cX2_token 26 = .ok (.ifCond .ne 17, 3) := dk_154 0 17 (dk_at dksX2_token_1 3 rfl rfl)
theorem dX2_token_29 : decode cX2_token 29 = .ok (.iload_n 1, 1) := dk_27 (dk_at dksX2_token_1 6 rfl rfl)
theorem dX2_token_30 : decode cX2_token 30 = .ok (.i2l, 1) := dk_133 (dk_at dksX2_token_1 7 rfl rfl)
theorem dX2_token_31 : decode cX2_token 31 = .ok (.ldc2_w 35, 3) := dk_20 0 35 (dk_at dksX2_token_1 8 rfl rfl)
theorem dX2_token_34 : decode cX2_token 34 = .ok (.ldc2_w 37, 3) := dk_20 0 37 (dk_at dksX2_token_1 11 rfl rfl)
theorem dX2_token_37 : decode cX2_token 37 = .ok (.invokestatic 31, 3) := dk_184 0 31 (dk_at dksX2_token_1 14 rfl rfl)
theorem dX2_token_40 : decode cX2_token 40 = .ok (.ifCond .eq 7, 3) := dk_153 0 7 (dk_at dksX2_token_1 17 rfl rfl)
theorem dX2_token_43 : decode cX2_token 43 = .ok (.iconst 1, 1) := dk_4 (dk_at dksX2_token_1 20 rfl rfl)
theorem dX2_token_44 : decode cX2_token 44 = .ok (.goto 32, 3) := dk_167 0 32 (dk_at dksX2_token_1 21 rfl rfl)
theorem dX2_token_47 : decode cX2_token 47 = .ok (.iload_n 1, 1) := dk_27 (dk_at dksX2_token_2 0 rfl rfl)
theorem dX2_token_48 : decode cX2_token 48 = .ok (.i2l, 1) := dk_133 (dk_at dksX2_token_2 1 rfl rfl)
theorem dX2_token_49 : decode cX2_token 49 = .ok (.ldc2_w 39, 3) := dk_20 0 39 (dk_at dksX2_token_2 2 rfl rfl)
theorem dX2_token_52 : decode cX2_token 52 = .ok (.ldc2_w 41, 3) := dk_20 0 41 (dk_at dksX2_token_2 5 rfl rfl)
theorem dX2_token_55 : decode cX2_token 55 = .ok (.invokestatic 31, 3) := dk_184 0 31 (dk_at dksX2_token_2 8 rfl rfl)
theorem dX2_token_58 : decode cX2_token 58 = .ok (.ifCond .eq 7, 3) := dk_153 0 7 (dk_at dksX2_token_2 11 rfl rfl)
theorem dX2_token_61 : decode cX2_token 61 = .ok (.iconst 2, 1) := dk_5 (dk_at dksX2_token_2 14 rfl rfl)
theorem dX2_token_62 : decode cX2_token 62 = .ok (.goto 14, 3) := dk_167 0 14 (dk_at dksX2_token_2 15 rfl rfl)
theorem dX2_token_65 : decode cX2_token 65 = .ok (.iload_n 1, 1) := dk_27 (dk_at dksX2_token_2 18 rfl rfl)
theorem dX2_token_66 : decode cX2_token 66 = .ok (.bipush 59, 2) := dk_16 59 (dk_at dksX2_token_2 19 rfl rfl)
theorem dX2_token_68 : decode cX2_token 68 = .ok (.if_icmp .ne 7, 3) := dk_160 0 7 (dk_at dksX2_token_2 21 rfl rfl)
theorem dX2_token_71 : decode cX2_token 71 = .ok (.iconst 3, 1) := dk_6 (dk_at dksX2_token_3 0 rfl rfl)
theorem dX2_token_72 : decode cX2_token 72 = .ok (.goto 4, 3) := dk_167 0 4 (dk_at dksX2_token_3 1 rfl rfl)
theorem dX2_token_75 : decode cX2_token 75 = .ok (.iconst 4, 1) := dk_7 (dk_at dksX2_token_3 4 rfl rfl)
theorem dX2_token_76 : decode cX2_token 76 = .ok (.ireturn, 1) := dk_172 (dk_at dksX2_token_3 5 rfl rfl)
abbrev cX2_stop : ByteArray := prog_10_method_7_code
def yX2_stop : MethodName := ⟨RX2, "stop", "()V"⟩
def dkwX2_stop_1 : List UInt8 := [96, 181, 0, 19, 177]
abbrev dktX2_stop_1 : List UInt8 := dkwX2_stop_1 ++ []
def dkwX2_stop_0 : List UInt8 := [42, 42, 182, 0, 52, 6, 160, 0, 7, 4, 167, 0, 4, 3, 4, 182, 0, 48, 42, 89, 180, 0, 19, 4]
abbrev dktX2_stop_0 : List UInt8 := dkwX2_stop_0 ++ dktX2_stop_1
theorem dksX2_stop_0 : cX2_stop.data.toList.drop 0 = dktX2_stop_0 := by decide +kernel
theorem dksX2_stop_1 : cX2_stop.data.toList.drop 24 = dktX2_stop_1 := dk_seg dksX2_stop_0 24 rfl rfl
theorem dX2_stop_0 : decode cX2_stop 0 = .ok (.aload_n 0, 1) := dk_42 (dk_at dksX2_stop_0 0 rfl rfl)
theorem dX2_stop_1 : decode cX2_stop 1 = .ok (.aload_n 0, 1) := dk_42 (dk_at dksX2_stop_0 1 rfl rfl)
theorem dX2_stop_2 : decode cX2_stop 2 = .ok (.invokevirtual 52, 3) := dk_182 0 52 (dk_at dksX2_stop_0 2 rfl rfl)
theorem dX2_stop_5 : decode cX2_stop 5 = .ok (.iconst 3, 1) := dk_6 (dk_at dksX2_stop_0 5 rfl rfl)
theorem dX2_stop_6 : decode cX2_stop 6 = .ok (.if_icmp .ne 7, 3) := dk_160 0 7 (dk_at dksX2_stop_0 6 rfl rfl)
theorem dX2_stop_9 : decode cX2_stop 9 = .ok (.iconst 1, 1) := dk_4 (dk_at dksX2_stop_0 9 rfl rfl)
theorem dX2_stop_10 : decode cX2_stop 10 = .ok (.goto 4, 3) := dk_167 0 4 (dk_at dksX2_stop_0 10 rfl rfl)
theorem dX2_stop_13 : decode cX2_stop 13 = .ok (.iconst 0, 1) := dk_3 (dk_at dksX2_stop_0 13 rfl rfl)
theorem dX2_stop_14 : decode cX2_stop 14 = .ok (.iconst 1, 1) := dk_4 (dk_at dksX2_stop_0 14 rfl rfl)
theorem dX2_stop_15 : decode cX2_stop 15 = .ok (.invokevirtual 48, 3) := dk_182 0 48 (dk_at dksX2_stop_0 15 rfl rfl)
theorem dX2_stop_18 : decode cX2_stop 18 = .ok (.aload_n 0, 1) := dk_42 (dk_at dksX2_stop_0 18 rfl rfl)
theorem dX2_stop_19 : decode cX2_stop 19 = .ok (.dup, 1) := dk_89 (dk_at dksX2_stop_0 19 rfl rfl)
theorem dX2_stop_20 : decode cX2_stop 20 = .ok (.getfield 19, 3) := dk_180 0 19 (dk_at dksX2_stop_0 20 rfl rfl)
theorem dX2_stop_23 : decode cX2_stop 23 = .ok (.iconst 1, 1) := dk_4 (dk_at dksX2_stop_0 23 rfl rfl)
theorem dX2_stop_24 : decode cX2_stop 24 = .ok (.iadd, 1) := dk_96 (dk_at dksX2_stop_1 0 rfl rfl)
theorem dX2_stop_25 : decode cX2_stop 25 = .ok (.putfield 19, 3) := dk_181 0 19 (dk_at dksX2_stop_1 1 rfl rfl)
theorem dX2_stop_28 : decode cX2_stop 28 = .ok (.return_, 1) := dk_177 (dk_at dksX2_stop_1 4 rfl rfl)
abbrev cX2_word : ByteArray := prog_10_method_9_code
def yX2_word : MethodName := ⟨RX2, "word", "([LChainParts$EdgeCell;I)[I"⟩
def dkwX2_word_11 : List UInt8 := [1, 176]
abbrev dktX2_word_11 : List UInt8 := dkwX2_word_11 ++ []
def dkwX2_word_10 : List UInt8 := [58, 7, 45, 3, 25, 7, 3, 21, 4, 184, 0, 67, 21, 5, 21, 6, 160, 0, 8, 25, 7, 167, 0, 4]
abbrev dktX2_word_10 : List UInt8 := dkwX2_word_10 ++ dktX2_word_11
def dkwX2_word_9 : List UInt8 := [153, 0, 10, 21, 5, 21, 6, 160, 0, 7, 4, 167, 0, 4, 3, 5, 182, 0, 48, 21, 4, 188, 10]
abbrev dktX2_word_9 : List UInt8 := dkwX2_word_9 ++ dktX2_word_10
def dkwX2_word_8 : List UInt8 := [159, 0, 10, 42, 182, 0, 52, 154, 0, 7, 4, 167, 0, 4, 3, 4, 182, 0, 48, 42, 42, 182, 0, 52]
abbrev dktX2_word_8 : List UInt8 := dkwX2_word_8 ++ dktX2_word_9
def dkwX2_word_7 : List UInt8 := [180, 0, 19, 4, 96, 181, 0, 19, 167, 255, 98, 42, 21, 4, 158, 0, 22, 42, 182, 0, 52, 6]
abbrev dktX2_word_7 : List UInt8 := dkwX2_word_7 ++ dktX2_word_8
def dkwX2_word_6 : List UInt8 := [167, 0, 10, 43, 21, 8, 50, 180, 0, 59, 54, 6, 45, 21, 4, 132, 4, 1, 21, 7, 79, 42, 89]
abbrev dktX2_word_6 : List UInt8 := dkwX2_word_6 ++ dktX2_word_7
def dkwX2_word_5 : List UInt8 := [154, 0, 8, 21, 9, 167, 0, 5, 21, 5, 54, 5, 21, 7, 156, 0, 13, 43, 21, 8, 50, 180, 0, 64]
abbrev dktX2_word_5 : List UInt8 := dkwX2_word_5 ++ dktX2_word_6
def dkwX2_word_4 : List UInt8 := [21, 4, 153, 0, 10, 21, 9, 21, 6, 160, 0, 7, 4, 167, 0, 4, 3, 5, 182, 0, 48, 21, 4]
abbrev dktX2_word_4 : List UInt8 := dkwX2_word_4 ++ dktX2_word_5
def dkwX2_word_3 : List UInt8 := [156, 0, 13, 43, 21, 8, 50, 180, 0, 59, 167, 0, 10, 43, 21, 8, 50, 180, 0, 64, 54, 9, 42]
abbrev dktX2_word_3 : List UInt8 := dkwX2_word_3 ++ dktX2_word_4
def dkwX2_word_2 : List UInt8 := [42, 21, 4, 7, 162, 0, 13, 21, 8, 28, 162, 0, 7, 4, 167, 0, 4, 3, 5, 182, 0, 48, 21, 7]
abbrev dktX2_word_2 : List UInt8 := dkwX2_word_2 ++ dktX2_word_3
def dkwX2_word_1 : List UInt8 := [182, 0, 23, 184, 0, 55, 54, 7, 21, 7, 156, 0, 10, 2, 21, 7, 100, 167, 0, 5, 21, 7, 54, 8]
abbrev dktX2_word_1 : List UInt8 := dkwX2_word_1 ++ dktX2_word_2
def dkwX2_word_0 : List UInt8 := [7, 188, 10, 78, 3, 54, 4, 18, 22, 54, 5, 18, 22, 54, 6, 42, 182, 0, 52, 4, 160, 0, 156, 42]
abbrev dktX2_word_0 : List UInt8 := dkwX2_word_0 ++ dktX2_word_1
theorem dksX2_word_0 : cX2_word.data.toList.drop 0 = dktX2_word_0 := by decide +kernel
theorem dksX2_word_1 : cX2_word.data.toList.drop 24 = dktX2_word_1 := dk_seg dksX2_word_0 24 rfl rfl
theorem dksX2_word_2 : cX2_word.data.toList.drop 48 = dktX2_word_2 := dk_seg dksX2_word_1 24 rfl rfl
theorem dksX2_word_3 : cX2_word.data.toList.drop 72 = dktX2_word_3 := dk_seg dksX2_word_2 24 rfl rfl
theorem dksX2_word_4 : cX2_word.data.toList.drop 95 = dktX2_word_4 := dk_seg dksX2_word_3 23 rfl rfl
theorem dksX2_word_5 : cX2_word.data.toList.drop 118 = dktX2_word_5 := dk_seg dksX2_word_4 23 rfl rfl
theorem dksX2_word_6 : cX2_word.data.toList.drop 142 = dktX2_word_6 := dk_seg dksX2_word_5 24 rfl rfl
theorem dksX2_word_7 : cX2_word.data.toList.drop 165 = dktX2_word_7 := dk_seg dksX2_word_6 23 rfl rfl
theorem dksX2_word_8 : cX2_word.data.toList.drop 187 = dktX2_word_8 := dk_seg dksX2_word_7 22 rfl rfl
theorem dksX2_word_9 : cX2_word.data.toList.drop 211 = dktX2_word_9 := dk_seg dksX2_word_8 24 rfl rfl
theorem dksX2_word_10 : cX2_word.data.toList.drop 234 = dktX2_word_10 := dk_seg dksX2_word_9 23 rfl rfl
theorem dksX2_word_11 : cX2_word.data.toList.drop 258 = dktX2_word_11 := dk_seg dksX2_word_10 24 rfl rfl
theorem dX2_word_0 : decode cX2_word 0 = .ok (.iconst 4, 1) := dk_7 (dk_at dksX2_word_0 0 rfl rfl)
theorem dX2_word_1 : decode cX2_word 1 = .ok (.newarray .int, 2) := dk_188_10 (dk_at dksX2_word_0 1 rfl rfl)
theorem dX2_word_3 : decode cX2_word 3 = .ok (.astore_n 3, 1) := dk_78 (dk_at dksX2_word_0 3 rfl rfl)
theorem dX2_word_4 : decode cX2_word 4 = .ok (.iconst 0, 1) := dk_3 (dk_at dksX2_word_0 4 rfl rfl)
theorem dX2_word_5 : decode cX2_word 5 = .ok (.istore 4, 2) := dk_54 4 (dk_at dksX2_word_0 5 rfl rfl)
theorem dX2_word_7 : decode cX2_word 7 = .ok (.ldc 22, 2) := dk_18 22 (dk_at dksX2_word_0 7 rfl rfl)
theorem dX2_word_9 : decode cX2_word 9 = .ok (.istore 5, 2) := dk_54 5 (dk_at dksX2_word_0 9 rfl rfl)
theorem dX2_word_11 : decode cX2_word 11 = .ok (.ldc 22, 2) := dk_18 22 (dk_at dksX2_word_0 11 rfl rfl)
theorem dX2_word_13 : decode cX2_word 13 = .ok (.istore 6, 2) := dk_54 6 (dk_at dksX2_word_0 13 rfl rfl)
theorem dX2_word_15 : decode cX2_word 15 = .ok (.aload_n 0, 1) := dk_42 (dk_at dksX2_word_0 15 rfl rfl)
theorem dX2_word_16 : decode cX2_word 16 = .ok (.invokevirtual 52, 3) := dk_182 0 52 (dk_at dksX2_word_0 16 rfl rfl)
theorem dX2_word_19 : decode cX2_word 19 = .ok (.iconst 1, 1) := dk_4 (dk_at dksX2_word_0 19 rfl rfl)
theorem dX2_word_20 : decode cX2_word 20 = .ok (.if_icmp .ne 156, 3) := dk_160 0 156 (dk_at dksX2_word_0 20 rfl rfl)
theorem dX2_word_23 : decode cX2_word 23 = .ok (.aload_n 0, 1) := dk_42 (dk_at dksX2_word_0 23 rfl rfl)
theorem dX2_word_24 : decode cX2_word 24 = .ok (.invokevirtual 23, 3) := dk_182 0 23 (dk_at dksX2_word_1 0 rfl rfl)
theorem dX2_word_27 : decode cX2_word 27 = .ok (.invokestatic 55, 3) := dk_184 0 55 (dk_at dksX2_word_1 3 rfl rfl)
theorem dX2_word_30 : decode cX2_word 30 = .ok (.istore 7, 2) := dk_54 7 (dk_at dksX2_word_1 6 rfl rfl)
theorem dX2_word_32 : decode cX2_word 32 = .ok (.iload 7, 2) := dk_21 7 (dk_at dksX2_word_1 8 rfl rfl)
theorem dX2_word_34 : decode cX2_word 34 = .ok (.ifCond .ge 10, 3) := dk_156 0 10 (dk_at dksX2_word_1 10 rfl rfl)
theorem dX2_word_37 : decode cX2_word 37 = .ok (.iconst (-1), 1) := dk_2 (dk_at dksX2_word_1 13 rfl rfl)
theorem dX2_word_38 : decode cX2_word 38 = .ok (.iload 7, 2) := dk_21 7 (dk_at dksX2_word_1 14 rfl rfl)
theorem dX2_word_40 : decode cX2_word 40 = .ok (.isub, 1) := dk_100 (dk_at dksX2_word_1 16 rfl rfl)
theorem dX2_word_41 : decode cX2_word 41 = .ok (.goto 5, 3) := dk_167 0 5 (dk_at dksX2_word_1 17 rfl rfl)
theorem dX2_word_44 : decode cX2_word 44 = .ok (.iload 7, 2) := dk_21 7 (dk_at dksX2_word_1 20 rfl rfl)
theorem dX2_word_46 : decode cX2_word 46 = .ok (.istore 8, 2) := dk_54 8 (dk_at dksX2_word_1 22 rfl rfl)
theorem dX2_word_48 : decode cX2_word 48 = .ok (.aload_n 0, 1) := dk_42 (dk_at dksX2_word_2 0 rfl rfl)
theorem dX2_word_49 : decode cX2_word 49 = .ok (.iload 4, 2) := dk_21 4 (dk_at dksX2_word_2 1 rfl rfl)
theorem dX2_word_51 : decode cX2_word 51 = .ok (.iconst 4, 1) := dk_7 (dk_at dksX2_word_2 3 rfl rfl)
theorem dX2_word_52 : decode cX2_word 52 = .ok (.if_icmp .ge 13, 3) := dk_162 0 13 (dk_at dksX2_word_2 4 rfl rfl)
theorem dX2_word_55 : decode cX2_word 55 = .ok (.iload 8, 2) := dk_21 8 (dk_at dksX2_word_2 7 rfl rfl)
theorem dX2_word_57 : decode cX2_word 57 = .ok (.iload_n 2, 1) := dk_28 (dk_at dksX2_word_2 9 rfl rfl)
theorem dX2_word_58 : decode cX2_word 58 = .ok (.if_icmp .ge 7, 3) := dk_162 0 7 (dk_at dksX2_word_2 10 rfl rfl)
theorem dX2_word_61 : decode cX2_word 61 = .ok (.iconst 1, 1) := dk_4 (dk_at dksX2_word_2 13 rfl rfl)
theorem dX2_word_62 : decode cX2_word 62 = .ok (.goto 4, 3) := dk_167 0 4 (dk_at dksX2_word_2 14 rfl rfl)
theorem dX2_word_65 : decode cX2_word 65 = .ok (.iconst 0, 1) := dk_3 (dk_at dksX2_word_2 17 rfl rfl)
theorem dX2_word_66 : decode cX2_word 66 = .ok (.iconst 2, 1) := dk_5 (dk_at dksX2_word_2 18 rfl rfl)
theorem dX2_word_67 : decode cX2_word 67 = .ok (.invokevirtual 48, 3) := dk_182 0 48 (dk_at dksX2_word_2 19 rfl rfl)
theorem dX2_word_70 : decode cX2_word 70 = .ok (.iload 7, 2) := dk_21 7 (dk_at dksX2_word_2 22 rfl rfl)
theorem dX2_word_72 : decode cX2_word 72 = .ok (.ifCond .ge 13, 3) := dk_156 0 13 (dk_at dksX2_word_3 0 rfl rfl)
theorem dX2_word_75 : decode cX2_word 75 = .ok (.aload_n 1, 1) := dk_43 (dk_at dksX2_word_3 3 rfl rfl)
theorem dX2_word_76 : decode cX2_word 76 = .ok (.iload 8, 2) := dk_21 8 (dk_at dksX2_word_3 4 rfl rfl)
theorem dX2_word_78 : decode cX2_word 78 = .ok (.aaload, 1) := dk_50 (dk_at dksX2_word_3 6 rfl rfl)
theorem dX2_word_79 : decode cX2_word 79 = .ok (.getfield 59, 3) := dk_180 0 59 (dk_at dksX2_word_3 7 rfl rfl)
theorem dX2_word_82 : decode cX2_word 82 = .ok (.goto 10, 3) := dk_167 0 10 (dk_at dksX2_word_3 10 rfl rfl)
theorem dX2_word_85 : decode cX2_word 85 = .ok (.aload_n 1, 1) := dk_43 (dk_at dksX2_word_3 13 rfl rfl)
theorem dX2_word_86 : decode cX2_word 86 = .ok (.iload 8, 2) := dk_21 8 (dk_at dksX2_word_3 14 rfl rfl)
theorem dX2_word_88 : decode cX2_word 88 = .ok (.aaload, 1) := dk_50 (dk_at dksX2_word_3 16 rfl rfl)
theorem dX2_word_89 : decode cX2_word 89 = .ok (.getfield 64, 3) := dk_180 0 64 (dk_at dksX2_word_3 17 rfl rfl)
theorem dX2_word_92 : decode cX2_word 92 = .ok (.istore 9, 2) := dk_54 9 (dk_at dksX2_word_3 20 rfl rfl)
theorem dX2_word_94 : decode cX2_word 94 = .ok (.aload_n 0, 1) := dk_42 (dk_at dksX2_word_3 22 rfl rfl)
theorem dX2_word_95 : decode cX2_word 95 = .ok (.iload 4, 2) := dk_21 4 (dk_at dksX2_word_4 0 rfl rfl)
theorem dX2_word_97 : decode cX2_word 97 = .ok (.ifCond .eq 10, 3) := dk_153 0 10 (dk_at dksX2_word_4 2 rfl rfl)
theorem dX2_word_100 : decode cX2_word 100 = .ok (.iload 9, 2) := dk_21 9 (dk_at dksX2_word_4 5 rfl rfl)
theorem dX2_word_102 : decode cX2_word 102 = .ok (.iload 6, 2) := dk_21 6 (dk_at dksX2_word_4 7 rfl rfl)
theorem dX2_word_104 : decode cX2_word 104 = .ok (.if_icmp .ne 7, 3) := dk_160 0 7 (dk_at dksX2_word_4 9 rfl rfl)
theorem dX2_word_107 : decode cX2_word 107 = .ok (.iconst 1, 1) := dk_4 (dk_at dksX2_word_4 12 rfl rfl)
theorem dX2_word_108 : decode cX2_word 108 = .ok (.goto 4, 3) := dk_167 0 4 (dk_at dksX2_word_4 13 rfl rfl)
theorem dX2_word_111 : decode cX2_word 111 = .ok (.iconst 0, 1) := dk_3 (dk_at dksX2_word_4 16 rfl rfl)
theorem dX2_word_112 : decode cX2_word 112 = .ok (.iconst 2, 1) := dk_5 (dk_at dksX2_word_4 17 rfl rfl)
theorem dX2_word_113 : decode cX2_word 113 = .ok (.invokevirtual 48, 3) := dk_182 0 48 (dk_at dksX2_word_4 18 rfl rfl)
theorem dX2_word_116 : decode cX2_word 116 = .ok (.iload 4, 2) := dk_21 4 (dk_at dksX2_word_4 21 rfl rfl)
theorem dX2_word_118 : decode cX2_word 118 = .ok (.ifCond .ne 8, 3) := dk_154 0 8 (dk_at dksX2_word_5 0 rfl rfl)
theorem dX2_word_121 : decode cX2_word 121 = .ok (.iload 9, 2) := dk_21 9 (dk_at dksX2_word_5 3 rfl rfl)
theorem dX2_word_123 : decode cX2_word 123 = .ok (.goto 5, 3) := dk_167 0 5 (dk_at dksX2_word_5 5 rfl rfl)
theorem dX2_word_126 : decode cX2_word 126 = .ok (.iload 5, 2) := dk_21 5 (dk_at dksX2_word_5 8 rfl rfl)
theorem dX2_word_128 : decode cX2_word 128 = .ok (.istore 5, 2) := dk_54 5 (dk_at dksX2_word_5 10 rfl rfl)
theorem dX2_word_130 : decode cX2_word 130 = .ok (.iload 7, 2) := dk_21 7 (dk_at dksX2_word_5 12 rfl rfl)
theorem dX2_word_132 : decode cX2_word 132 = .ok (.ifCond .ge 13, 3) := dk_156 0 13 (dk_at dksX2_word_5 14 rfl rfl)
theorem dX2_word_135 : decode cX2_word 135 = .ok (.aload_n 1, 1) := dk_43 (dk_at dksX2_word_5 17 rfl rfl)
theorem dX2_word_136 : decode cX2_word 136 = .ok (.iload 8, 2) := dk_21 8 (dk_at dksX2_word_5 18 rfl rfl)
theorem dX2_word_138 : decode cX2_word 138 = .ok (.aaload, 1) := dk_50 (dk_at dksX2_word_5 20 rfl rfl)
theorem dX2_word_139 : decode cX2_word 139 = .ok (.getfield 64, 3) := dk_180 0 64 (dk_at dksX2_word_5 21 rfl rfl)
theorem dX2_word_142 : decode cX2_word 142 = .ok (.goto 10, 3) := dk_167 0 10 (dk_at dksX2_word_6 0 rfl rfl)
theorem dX2_word_145 : decode cX2_word 145 = .ok (.aload_n 1, 1) := dk_43 (dk_at dksX2_word_6 3 rfl rfl)
theorem dX2_word_146 : decode cX2_word 146 = .ok (.iload 8, 2) := dk_21 8 (dk_at dksX2_word_6 4 rfl rfl)
theorem dX2_word_148 : decode cX2_word 148 = .ok (.aaload, 1) := dk_50 (dk_at dksX2_word_6 6 rfl rfl)
theorem dX2_word_149 : decode cX2_word 149 = .ok (.getfield 59, 3) := dk_180 0 59 (dk_at dksX2_word_6 7 rfl rfl)
theorem dX2_word_152 : decode cX2_word 152 = .ok (.istore 6, 2) := dk_54 6 (dk_at dksX2_word_6 10 rfl rfl)
theorem dX2_word_154 : decode cX2_word 154 = .ok (.aload_n 3, 1) := dk_45 (dk_at dksX2_word_6 12 rfl rfl)
theorem dX2_word_155 : decode cX2_word 155 = .ok (.iload 4, 2) := dk_21 4 (dk_at dksX2_word_6 13 rfl rfl)
theorem dX2_word_157 : decode cX2_word 157 = .ok (.iinc 4 1, 3) := dk_132 4 1 (dk_at dksX2_word_6 15 rfl rfl)
theorem dX2_word_160 : decode cX2_word 160 = .ok (.iload 7, 2) := dk_21 7 (dk_at dksX2_word_6 18 rfl rfl)
theorem dX2_word_162 : decode cX2_word 162 = .ok (.iastore, 1) := dk_79 (dk_at dksX2_word_6 20 rfl rfl)
theorem dX2_word_163 : decode cX2_word 163 = .ok (.aload_n 0, 1) := dk_42 (dk_at dksX2_word_6 21 rfl rfl)
theorem dX2_word_164 : decode cX2_word 164 = .ok (.dup, 1) := dk_89 (dk_at dksX2_word_6 22 rfl rfl)
theorem dX2_word_165 : decode cX2_word 165 = .ok (.getfield 19, 3) := dk_180 0 19 (dk_at dksX2_word_7 0 rfl rfl)
theorem dX2_word_168 : decode cX2_word 168 = .ok (.iconst 1, 1) := dk_4 (dk_at dksX2_word_7 3 rfl rfl)
theorem dX2_word_169 : decode cX2_word 169 = .ok (.iadd, 1) := dk_96 (dk_at dksX2_word_7 4 rfl rfl)
theorem dX2_word_170 : decode cX2_word 170 = .ok (.putfield 19, 3) := dk_181 0 19 (dk_at dksX2_word_7 5 rfl rfl)
theorem dX2_word_173 : decode cX2_word 173 = .ok (.goto (-158), 3) := dk_167 255 98 (dk_at dksX2_word_7 8 rfl rfl)
theorem dX2_word_176 : decode cX2_word 176 = .ok (.aload_n 0, 1) := dk_42 (dk_at dksX2_word_7 11 rfl rfl)
theorem dX2_word_177 : decode cX2_word 177 = .ok (.iload 4, 2) := dk_21 4 (dk_at dksX2_word_7 12 rfl rfl)
theorem dX2_word_179 : decode cX2_word 179 = .ok (.ifCond .le 22, 3) := dk_158 0 22 (dk_at dksX2_word_7 14 rfl rfl)
theorem dX2_word_182 : decode cX2_word 182 = .ok (.aload_n 0, 1) := dk_42 (dk_at dksX2_word_7 17 rfl rfl)
theorem dX2_word_183 : decode cX2_word 183 = .ok (.invokevirtual 52, 3) := dk_182 0 52 (dk_at dksX2_word_7 18 rfl rfl)
theorem dX2_word_186 : decode cX2_word 186 = .ok (.iconst 3, 1) := dk_6 (dk_at dksX2_word_7 21 rfl rfl)
theorem dX2_word_187 : decode cX2_word 187 = .ok (.if_icmp .eq 10, 3) := dk_159 0 10 (dk_at dksX2_word_8 0 rfl rfl)
theorem dX2_word_190 : decode cX2_word 190 = .ok (.aload_n 0, 1) := dk_42 (dk_at dksX2_word_8 3 rfl rfl)
theorem dX2_word_191 : decode cX2_word 191 = .ok (.invokevirtual 52, 3) := dk_182 0 52 (dk_at dksX2_word_8 4 rfl rfl)
theorem dX2_word_194 : decode cX2_word 194 = .ok (.ifCond .ne 7, 3) := dk_154 0 7 (dk_at dksX2_word_8 7 rfl rfl)
theorem dX2_word_197 : decode cX2_word 197 = .ok (.iconst 1, 1) := dk_4 (dk_at dksX2_word_8 10 rfl rfl)
theorem dX2_word_198 : decode cX2_word 198 = .ok (.goto 4, 3) := dk_167 0 4 (dk_at dksX2_word_8 11 rfl rfl)
theorem dX2_word_201 : decode cX2_word 201 = .ok (.iconst 0, 1) := dk_3 (dk_at dksX2_word_8 14 rfl rfl)
theorem dX2_word_202 : decode cX2_word 202 = .ok (.iconst 1, 1) := dk_4 (dk_at dksX2_word_8 15 rfl rfl)
theorem dX2_word_203 : decode cX2_word 203 = .ok (.invokevirtual 48, 3) := dk_182 0 48 (dk_at dksX2_word_8 16 rfl rfl)
theorem dX2_word_206 : decode cX2_word 206 = .ok (.aload_n 0, 1) := dk_42 (dk_at dksX2_word_8 19 rfl rfl)
theorem dX2_word_207 : decode cX2_word 207 = .ok (.aload_n 0, 1) := dk_42 (dk_at dksX2_word_8 20 rfl rfl)
theorem dX2_word_208 : decode cX2_word 208 = .ok (.invokevirtual 52, 3) := dk_182 0 52 (dk_at dksX2_word_8 21 rfl rfl)
theorem dX2_word_211 : decode cX2_word 211 = .ok (.ifCond .eq 10, 3) := dk_153 0 10 (dk_at dksX2_word_9 0 rfl rfl)
theorem dX2_word_214 : decode cX2_word 214 = .ok (.iload 5, 2) := dk_21 5 (dk_at dksX2_word_9 3 rfl rfl)
theorem dX2_word_216 : decode cX2_word 216 = .ok (.iload 6, 2) := dk_21 6 (dk_at dksX2_word_9 5 rfl rfl)
theorem dX2_word_218 : decode cX2_word 218 = .ok (.if_icmp .ne 7, 3) := dk_160 0 7 (dk_at dksX2_word_9 7 rfl rfl)
theorem dX2_word_221 : decode cX2_word 221 = .ok (.iconst 1, 1) := dk_4 (dk_at dksX2_word_9 10 rfl rfl)
theorem dX2_word_222 : decode cX2_word 222 = .ok (.goto 4, 3) := dk_167 0 4 (dk_at dksX2_word_9 11 rfl rfl)
theorem dX2_word_225 : decode cX2_word 225 = .ok (.iconst 0, 1) := dk_3 (dk_at dksX2_word_9 14 rfl rfl)
theorem dX2_word_226 : decode cX2_word 226 = .ok (.iconst 2, 1) := dk_5 (dk_at dksX2_word_9 15 rfl rfl)
theorem dX2_word_227 : decode cX2_word 227 = .ok (.invokevirtual 48, 3) := dk_182 0 48 (dk_at dksX2_word_9 16 rfl rfl)
theorem dX2_word_230 : decode cX2_word 230 = .ok (.iload 4, 2) := dk_21 4 (dk_at dksX2_word_9 19 rfl rfl)
theorem dX2_word_232 : decode cX2_word 232 = .ok (.newarray .int, 2) := dk_188_10 (dk_at dksX2_word_9 21 rfl rfl)
theorem dX2_word_234 : decode cX2_word 234 = .ok (.astore 7, 2) := dk_58 7 (dk_at dksX2_word_10 0 rfl rfl)
theorem dX2_word_236 : decode cX2_word 236 = .ok (.aload_n 3, 1) := dk_45 (dk_at dksX2_word_10 2 rfl rfl)
theorem dX2_word_237 : decode cX2_word 237 = .ok (.iconst 0, 1) := dk_3 (dk_at dksX2_word_10 3 rfl rfl)
theorem dX2_word_238 : decode cX2_word 238 = .ok (.aload 7, 2) := dk_25 7 (dk_at dksX2_word_10 4 rfl rfl)
theorem dX2_word_240 : decode cX2_word 240 = .ok (.iconst 0, 1) := dk_3 (dk_at dksX2_word_10 6 rfl rfl)
theorem dX2_word_241 : decode cX2_word 241 = .ok (.iload 4, 2) := dk_21 4 (dk_at dksX2_word_10 7 rfl rfl)
theorem dX2_word_243 : decode cX2_word 243 = .ok (.invokestatic 67, 3) := dk_184 0 67 (dk_at dksX2_word_10 9 rfl rfl)
theorem dX2_word_246 : decode cX2_word 246 = .ok (.iload 5, 2) := dk_21 5 (dk_at dksX2_word_10 12 rfl rfl)
theorem dX2_word_248 : decode cX2_word 248 = .ok (.iload 6, 2) := dk_21 6 (dk_at dksX2_word_10 14 rfl rfl)
theorem dX2_word_250 : decode cX2_word 250 = .ok (.if_icmp .ne 8, 3) := dk_160 0 8 (dk_at dksX2_word_10 16 rfl rfl)
theorem dX2_word_253 : decode cX2_word 253 = .ok (.aload 7, 2) := dk_25 7 (dk_at dksX2_word_10 19 rfl rfl)
theorem dX2_word_255 : decode cX2_word 255 = .ok (.goto 4, 3) := dk_167 0 4 (dk_at dksX2_word_10 21 rfl rfl)
theorem dX2_word_258 : decode cX2_word 258 = .ok (.aconst_null, 1) := dk_1 (dk_at dksX2_word_11 0 rfl rfl)
theorem dX2_word_259 : decode cX2_word 259 = .ok (.areturn, 1) := dk_176 (dk_at dksX2_word_11 1 rfl rfl)
abbrev cX2_edgeOf : ByteArray := prog_10_method_8_code
def yX2_edgeOf : MethodName := ⟨RX2, "edgeOf", "(I)I"⟩
def dkwX2_edgeOf_1 : List UInt8 := [100, 172]
abbrev dktX2_edgeOf_1 : List UInt8 := dkwX2_edgeOf_1 ++ []
def dkwX2_edgeOf_0 : List UInt8 := [26, 133, 20, 0, 27, 20, 0, 29, 184, 0, 31, 153, 0, 10, 26, 16, 97, 100, 167, 0, 7, 16, 64, 26]
abbrev dktX2_edgeOf_0 : List UInt8 := dkwX2_edgeOf_0 ++ dktX2_edgeOf_1
theorem dksX2_edgeOf_0 : cX2_edgeOf.data.toList.drop 0 = dktX2_edgeOf_0 := by decide +kernel
theorem dksX2_edgeOf_1 : cX2_edgeOf.data.toList.drop 24 = dktX2_edgeOf_1 := dk_seg dksX2_edgeOf_0 24 rfl rfl
theorem dX2_edgeOf_0 : decode cX2_edgeOf 0 = .ok (.iload_n 0, 1) := dk_26 (dk_at dksX2_edgeOf_0 0 rfl rfl)
theorem dX2_edgeOf_1 : decode cX2_edgeOf 1 = .ok (.i2l, 1) := dk_133 (dk_at dksX2_edgeOf_0 1 rfl rfl)
theorem dX2_edgeOf_2 : decode cX2_edgeOf 2 = .ok (.ldc2_w 27, 3) := dk_20 0 27 (dk_at dksX2_edgeOf_0 2 rfl rfl)
theorem dX2_edgeOf_5 : decode cX2_edgeOf 5 = .ok (.ldc2_w 29, 3) := dk_20 0 29 (dk_at dksX2_edgeOf_0 5 rfl rfl)
theorem dX2_edgeOf_8 : decode cX2_edgeOf 8 = .ok (.invokestatic 31, 3) := dk_184 0 31 (dk_at dksX2_edgeOf_0 8 rfl rfl)
theorem dX2_edgeOf_11 : decode cX2_edgeOf 11 = .ok (.ifCond .eq 10, 3) := dk_153 0 10 (dk_at dksX2_edgeOf_0 11 rfl rfl)
theorem dX2_edgeOf_14 : decode cX2_edgeOf 14 = .ok (.iload_n 0, 1) := dk_26 (dk_at dksX2_edgeOf_0 14 rfl rfl)
theorem dX2_edgeOf_15 : decode cX2_edgeOf 15 = .ok (.bipush 97, 2) := dk_16 97 (dk_at dksX2_edgeOf_0 15 rfl rfl)
theorem dX2_edgeOf_17 : decode cX2_edgeOf 17 = .ok (.isub, 1) := dk_100 (dk_at dksX2_edgeOf_0 17 rfl rfl)
theorem dX2_edgeOf_18 : decode cX2_edgeOf 18 = .ok (.goto 7, 3) := dk_167 0 7 (dk_at dksX2_edgeOf_0 18 rfl rfl)
theorem dX2_edgeOf_21 : decode cX2_edgeOf 21 = .ok (.bipush 64, 2) := dk_16 64 (dk_at dksX2_edgeOf_0 21 rfl rfl)
theorem dX2_edgeOf_23 : decode cX2_edgeOf 23 = .ok (.iload_n 0, 1) := dk_26 (dk_at dksX2_edgeOf_0 23 rfl rfl)
theorem dX2_edgeOf_24 : decode cX2_edgeOf 24 = .ok (.isub, 1) := dk_100 (dk_at dksX2_edgeOf_1 0 rfl rfl)
theorem dX2_edgeOf_25 : decode cX2_edgeOf 25 = .ok (.ireturn, 1) := dk_172 (dk_at dksX2_edgeOf_1 1 rfl rfl)
theorem q74 : (Jvm.Cond.initialized "ChainParts$Reader") ∈ lw_all := lw_g (lw_at lw_m1 3 rfl) rfl
theorem q142 : (Jvm.Cond.instantiable "ChainParts$Reader" (3 : Nat)) ∈ lw_all := lw_g (lw_at lw_m1 71 rfl) rfl
theorem q144 : (Jvm.Cond.instanceMethod ({ cls := "ChainParts$Reader", name := "<init>", desc := "([BI)V" } : Jvm.MethodName)) ∈ lw_all := lw_g (lw_at lw_m1 73 rfl) rfl
theorem q145 : (Jvm.Cond.code ({ cls := "ChainParts$Reader", name := "<init>", desc := "([BI)V" } : Jvm.MethodName) prog_10_method_1_code (3 : Nat) (Option.none : Option Jvm.ClassFile.FieldType)) ∈ lw_all := lw_g (lw_at lw_m1 74 rfl) rfl
theorem q146 : (Jvm.Cond.methodLink "ChainParts$Reader" (3 : Nat) ({ cls := "java/lang/Object", name := "<init>", desc := "()V" } : Jvm.MethodName)) ∈ lw_all := lw_g (lw_at lw_m1 75 rfl) rfl
theorem q147 : (Jvm.Cond.fieldLink "ChainParts$Reader" (9 : Nat) "ChainParts$Reader" "text" "[B") ∈ lw_all := lw_g (lw_at lw_m1 76 rfl) rfl
theorem q148 : (Jvm.Cond.fieldLink "ChainParts$Reader" (15 : Nat) "ChainParts$Reader" "size" "I") ∈ lw_all := lw_g (lw_at lw_m1 77 rfl) rfl
theorem q149 : (Jvm.Cond.fieldLink "ChainParts$Reader" (19 : Nat) "ChainParts$Reader" "at" "I") ∈ lw_all := lw_g (lw_at lw_m1 78 rfl) rfl
theorem q150 : (Jvm.Cond.laysFinal "ChainParts$Reader" "ChainParts$Reader" "text" "[B") ∈ lw_all := lw_g (lw_at lw_m1 79 rfl) rfl
theorem q151 : (Jvm.Cond.soleField "ChainParts$Reader" "text") ∈ lw_all := lw_g (lw_at lw_m1 80 rfl) rfl
theorem q152 : (Jvm.Cond.laysFinal "ChainParts$Reader" "ChainParts$Reader" "size" "I") ∈ lw_all := lw_g (lw_at lw_m1 81 rfl) rfl
theorem q153 : (Jvm.Cond.soleField "ChainParts$Reader" "size") ∈ lw_all := lw_g (lw_at lw_m1 82 rfl) rfl
theorem q154 : (Jvm.Cond.lays "ChainParts$Reader" "ChainParts$Reader" "at" "I") ∈ lw_all := lw_g (lw_at lw_m1 83 rfl) rfl
theorem q155 : (Jvm.Cond.soleField "ChainParts$Reader" "at") ∈ lw_all := lw_g (lw_at lw_m1 84 rfl) rfl
theorem q156 : (Jvm.Cond.superclass "ChainParts$Reader" "java/lang/Object") ∈ lw_all := lw_g (lw_at lw_m1 85 rfl) rfl
theorem q158 : (Jvm.Cond.instanceMethod ({ cls := "ChainParts$Reader", name := "all", desc := "()LChainParts$Complex;" } : Jvm.MethodName)) ∈ lw_all := lw_g (lw_at lw_m1 87 rfl) rfl
theorem q159 : (Jvm.Cond.selects "ChainParts$Reader" ({ cls := "ChainParts$Reader", name := "all", desc := "()LChainParts$Complex;" } : Jvm.MethodName) ({ cls := "ChainParts$Reader", name := "all", desc := "()LChainParts$Complex;" } : Jvm.MethodName)) ∈ lw_all := lw_g (lw_at lw_m1 88 rfl) rfl
theorem q160 : (Jvm.Cond.code ({ cls := "ChainParts$Reader", name := "all", desc := "()LChainParts$Complex;" } : Jvm.MethodName) prog_10_method_10_code (8 : Nat) (Option.some (Jvm.ClassFile.FieldType.object "ChainParts$Complex"))) ∈ lw_all := lw_g (lw_at lw_m1 89 rfl) rfl
theorem q161 : (Jvm.Cond.methodLink "ChainParts$Reader" (73 : Nat) ({ cls := "ChainParts$Reader", name := "letter", desc := "(I)V" } : Jvm.MethodName)) ∈ lw_all := lw_g (lw_at lw_m1 90 rfl) rfl
theorem q162 : (Jvm.Cond.privateMethod ({ cls := "ChainParts$Reader", name := "letter", desc := "(I)V" } : Jvm.MethodName)) ∈ lw_tbl := lw_at lw_m1 91 rfl
theorem q163 : (Jvm.Cond.instanceMethod ({ cls := "ChainParts$Reader", name := "letter", desc := "(I)V" } : Jvm.MethodName)) ∈ lw_all := lw_g (lw_at lw_m1 92 rfl) rfl
theorem q164 : (Jvm.Cond.code ({ cls := "ChainParts$Reader", name := "letter", desc := "(I)V" } : Jvm.MethodName) prog_10_method_5_code (2 : Nat) (Option.none : Option Jvm.ClassFile.FieldType)) ∈ lw_all := lw_g (lw_at lw_m1 93 rfl) rfl
theorem q165 : (Jvm.Cond.methodLink "ChainParts$Reader" (23 : Nat) ({ cls := "ChainParts$Reader", name := "look", desc := "()I" } : Jvm.MethodName)) ∈ lw_all := lw_g (lw_at lw_m1 94 rfl) rfl
theorem q166 : (Jvm.Cond.privateMethod ({ cls := "ChainParts$Reader", name := "look", desc := "()I" } : Jvm.MethodName)) ∈ lw_tbl := lw_at lw_m1 95 rfl
theorem q167 : (Jvm.Cond.instanceMethod ({ cls := "ChainParts$Reader", name := "look", desc := "()I" } : Jvm.MethodName)) ∈ lw_all := lw_g (lw_at lw_m1 96 rfl) rfl
theorem q168 : (Jvm.Cond.code ({ cls := "ChainParts$Reader", name := "look", desc := "()I" } : Jvm.MethodName) prog_10_method_2_code (1 : Nat) (Option.some Jvm.ClassFile.FieldType.int)) ∈ lw_all := lw_g (lw_at lw_m1 97 rfl) rfl
theorem q169 : (Jvm.Cond.constant "ChainParts$Reader" (22 : Nat) (-1000000 : Int32)) ∈ lw_all := lw_g (lw_at lw_m1 98 rfl) rfl
theorem q170 : (Jvm.Cond.methodLink "ChainParts$Reader" (48 : Nat) ({ cls := "ChainParts$Reader", name := "must", desc := "(ZI)V" } : Jvm.MethodName)) ∈ lw_all := lw_g (lw_at lw_m1 99 rfl) rfl
theorem q171 : (Jvm.Cond.privateMethod ({ cls := "ChainParts$Reader", name := "must", desc := "(ZI)V" } : Jvm.MethodName)) ∈ lw_tbl := lw_at lw_m1 100 rfl
theorem q172 : (Jvm.Cond.instanceMethod ({ cls := "ChainParts$Reader", name := "must", desc := "(ZI)V" } : Jvm.MethodName)) ∈ lw_all := lw_g (lw_at lw_m1 101 rfl) rfl
theorem q173 : (Jvm.Cond.code ({ cls := "ChainParts$Reader", name := "must", desc := "(ZI)V" } : Jvm.MethodName) prog_10_method_4_code (3 : Nat) (Option.none : Option Jvm.ClassFile.FieldType)) ∈ lw_all := lw_g (lw_at lw_m1 102 rfl) rfl
theorem q174 : (Jvm.Cond.classLink "ChainParts$Reader" (43 : Nat) "ChainParts$Fault") ∈ lw_all := lw_g (lw_at lw_m1 103 rfl) rfl
theorem q212 : (Jvm.Cond.methodLink "ChainParts$Reader" (45 : Nat) ({ cls := "ChainParts$Fault", name := "<init>", desc := "(II)V" } : Jvm.MethodName)) ∈ lw_all := lw_g (lw_at lw_m1 141 rfl) rfl
theorem q243 : (Jvm.Cond.methodLink "ChainParts$Reader" (77 : Nat) ({ cls := "ChainParts$Reader", name := "digit", desc := "(II)I" } : Jvm.MethodName)) ∈ lw_all := lw_g (lw_at lw_m1 172 rfl) rfl
theorem q244 : (Jvm.Cond.privateMethod ({ cls := "ChainParts$Reader", name := "digit", desc := "(II)I" } : Jvm.MethodName)) ∈ lw_tbl := lw_at lw_m1 173 rfl
theorem q245 : (Jvm.Cond.instanceMethod ({ cls := "ChainParts$Reader", name := "digit", desc := "(II)I" } : Jvm.MethodName)) ∈ lw_all := lw_g (lw_at lw_m1 174 rfl) rfl
theorem q246 : (Jvm.Cond.code ({ cls := "ChainParts$Reader", name := "digit", desc := "(II)I" } : Jvm.MethodName) prog_10_method_6_code (4 : Nat) (Option.some Jvm.ClassFile.FieldType.int)) ∈ lw_all := lw_g (lw_at lw_m1 175 rfl) rfl
theorem q247 : (Jvm.Cond.methodLink "ChainParts$Reader" (52 : Nat) ({ cls := "ChainParts$Reader", name := "token", desc := "()I" } : Jvm.MethodName)) ∈ lw_all := lw_g (lw_at lw_m1 176 rfl) rfl
theorem q248 : (Jvm.Cond.privateMethod ({ cls := "ChainParts$Reader", name := "token", desc := "()I" } : Jvm.MethodName)) ∈ lw_tbl := lw_at lw_m1 177 rfl
theorem q249 : (Jvm.Cond.instanceMethod ({ cls := "ChainParts$Reader", name := "token", desc := "()I" } : Jvm.MethodName)) ∈ lw_all := lw_g (lw_at lw_m1 178 rfl) rfl
theorem q250 : (Jvm.Cond.code ({ cls := "ChainParts$Reader", name := "token", desc := "()I" } : Jvm.MethodName) prog_10_method_3_code (2 : Nat) (Option.some Jvm.ClassFile.FieldType.int)) ∈ lw_all := lw_g (lw_at lw_m1 179 rfl) rfl
theorem q251 : (Jvm.Cond.constantLong "ChainParts$Reader" (27 : Nat) (97 : Int64)) ∈ lw_all := lw_g (lw_at lw_m1 180 rfl) rfl
theorem q252 : (Jvm.Cond.constantLong "ChainParts$Reader" (29 : Nat) (122 : Int64)) ∈ lw_all := lw_g (lw_at lw_m1 181 rfl) rfl
theorem q253 : (Jvm.Cond.methodLinkNest "ChainParts$Reader" (31 : Nat) ({ cls := "ChainParts", name := "isIn", desc := "(JJJ)Z" } : Jvm.MethodName) "ChainParts") ∈ lw_tbl := lw_at lw_m1 182 rfl
theorem q254 : (Jvm.Cond.constantLong "ChainParts$Reader" (35 : Nat) (65 : Int64)) ∈ lw_all := lw_g (lw_at lw_m1 183 rfl) rfl
theorem q255 : (Jvm.Cond.constantLong "ChainParts$Reader" (37 : Nat) (90 : Int64)) ∈ lw_all := lw_g (lw_at lw_m1 184 rfl) rfl
theorem q256 : (Jvm.Cond.constantLong "ChainParts$Reader" (39 : Nat) (48 : Int64)) ∈ lw_all := lw_g (lw_at lw_m1 185 rfl) rfl
theorem q257 : (Jvm.Cond.constantLong "ChainParts$Reader" (41 : Nat) (57 : Int64)) ∈ lw_all := lw_g (lw_at lw_m1 186 rfl) rfl
theorem q258 : (Jvm.Cond.methodLink "ChainParts$Reader" (81 : Nat) ({ cls := "ChainParts$Reader", name := "stop", desc := "()V" } : Jvm.MethodName)) ∈ lw_all := lw_g (lw_at lw_m1 187 rfl) rfl
theorem q259 : (Jvm.Cond.privateMethod ({ cls := "ChainParts$Reader", name := "stop", desc := "()V" } : Jvm.MethodName)) ∈ lw_tbl := lw_at lw_m1 188 rfl
theorem q260 : (Jvm.Cond.instanceMethod ({ cls := "ChainParts$Reader", name := "stop", desc := "()V" } : Jvm.MethodName)) ∈ lw_all := lw_g (lw_at lw_m1 189 rfl) rfl
theorem q261 : (Jvm.Cond.code ({ cls := "ChainParts$Reader", name := "stop", desc := "()V" } : Jvm.MethodName) prog_10_method_7_code (1 : Nat) (Option.none : Option Jvm.ClassFile.FieldType)) ∈ lw_all := lw_g (lw_at lw_m1 190 rfl) rfl
theorem q262 : (Jvm.Cond.classLink "ChainParts$Reader" (60 : Nat) "ChainParts$EdgeCell") ∈ lw_all := lw_g (lw_at lw_m1 191 rfl) rfl
theorem q264 : (Jvm.Cond.methodLinkNest "ChainParts$Reader" (84 : Nat) ({ cls := "ChainParts", name := "edgeBy", desc := "(III)LChainParts$EdgeCell;" } : Jvm.MethodName) "ChainParts") ∈ lw_tbl := lw_at lw_m1 193 rfl
theorem q283 : (Jvm.Cond.fieldLink "ChainParts$Reader" (64 : Nat) "ChainParts$EdgeCell" "from" "I") ∈ lw_all := lw_g (lw_at lw_m1 212 rfl) rfl
theorem q287 : (Jvm.Cond.fieldLink "ChainParts$Reader" (59 : Nat) "ChainParts$EdgeCell" "to" "I") ∈ lw_all := lw_g (lw_at lw_m1 216 rfl) rfl
theorem q306 : (Jvm.Cond.classLink "ChainParts$Reader" (88 : Nat) "ChainParts$FaceCell") ∈ lw_all := lw_g (lw_at lw_m1 235 rfl) rfl
theorem q308 : (Jvm.Cond.methodLink "ChainParts$Reader" (90 : Nat) ({ cls := "ChainParts$Reader", name := "word", desc := "([LChainParts$EdgeCell;I)[I" } : Jvm.MethodName)) ∈ lw_all := lw_g (lw_at lw_m1 237 rfl) rfl
theorem q309 : (Jvm.Cond.instanceMethod ({ cls := "ChainParts$Reader", name := "word", desc := "([LChainParts$EdgeCell;I)[I" } : Jvm.MethodName)) ∈ lw_all := lw_g (lw_at lw_m1 238 rfl) rfl
theorem q310 : (Jvm.Cond.selects "ChainParts$Reader" ({ cls := "ChainParts$Reader", name := "word", desc := "([LChainParts$EdgeCell;I)[I" } : Jvm.MethodName) ({ cls := "ChainParts$Reader", name := "word", desc := "([LChainParts$EdgeCell;I)[I" } : Jvm.MethodName)) ∈ lw_all := lw_g (lw_at lw_m1 239 rfl) rfl
theorem q311 : (Jvm.Cond.code ({ cls := "ChainParts$Reader", name := "word", desc := "([LChainParts$EdgeCell;I)[I" } : Jvm.MethodName) prog_10_method_9_code (10 : Nat) (Option.some (Jvm.ClassFile.FieldType.array Jvm.ClassFile.FieldType.int))) ∈ lw_all := lw_g (lw_at lw_m2 0 rfl) rfl
theorem q312 : (Jvm.Cond.methodLink "ChainParts$Reader" (55 : Nat) ({ cls := "ChainParts$Reader", name := "edgeOf", desc := "(I)I" } : Jvm.MethodName)) ∈ lw_all := lw_g (lw_at lw_m2 1 rfl) rfl
theorem q313 : (Jvm.Cond.static ({ cls := "ChainParts$Reader", name := "edgeOf", desc := "(I)I" } : Jvm.MethodName)) ∈ lw_all := lw_g (lw_at lw_m2 2 rfl) rfl
theorem q314 : (Jvm.Cond.code ({ cls := "ChainParts$Reader", name := "edgeOf", desc := "(I)I" } : Jvm.MethodName) prog_10_method_8_code (1 : Nat) (Option.some Jvm.ClassFile.FieldType.int)) ∈ lw_all := lw_g (lw_at lw_m2 3 rfl) rfl
theorem q315 : (Jvm.Cond.methodLink "ChainParts$Reader" (67 : Nat) ({ cls := "java/lang/System", name := "arraycopy", desc := "(Ljava/lang/Object;ILjava/lang/Object;II)V" } : Jvm.MethodName)) ∈ lw_all := lw_g (lw_at lw_m2 4 rfl) rfl
theorem q318 : (Jvm.Cond.methodLinkNest "ChainParts$Reader" (94 : Nat) ({ cls := "ChainParts", name := "faceBy", desc := "([II)LChainParts$FaceCell;" } : Jvm.MethodName) "ChainParts") ∈ lw_tbl := lw_at lw_m2 7 rfl
theorem q355 : (Jvm.Cond.classLink "ChainParts$Reader" (98 : Nat) "ChainParts$Complex") ∈ lw_all := lw_g (lw_at lw_m2 44 rfl) rfl
theorem q357 : (Jvm.Cond.classLink "ChainParts$Reader" (100 : Nat) "[[I") ∈ lw_all := lw_g (lw_at lw_m2 46 rfl) rfl
theorem q359 : (Jvm.Cond.methodLink "ChainParts$Reader" (102 : Nat) ({ cls := "ChainParts$Complex", name := "<init>", desc := "(I[LChainParts$EdgeCell;[LChainParts$FaceCell;[[I)V" } : Jvm.MethodName)) ∈ lw_all := lw_g (lw_at lw_m2 48 rfl) rfl
theorem in_X2 : ∀ w ∈ wsX20, w ∈ lw_all := lw_in wsX20 [150, 152, 154] (by decide +kernel) (by decide +kernel)
theorem q102 : (Jvm.Cond.arrayOver (Jvm.ClassFile.FieldType.object "ChainParts$Complex")) ∈ lw_tbl := lw_at lw_m1 31 rfl
set_option maxRecDepth 100000
theorem q125 : (Jvm.Cond.arrayClass Jvm.ClassFile.FieldType.byte) ∈ lw_all := lw_g (lw_at lw_m1 54 rfl) rfl
theorem q263 : (Jvm.Cond.arrayOver (Jvm.ClassFile.FieldType.object "ChainParts$EdgeCell")) ∈ lw_tbl := lw_at lw_m1 192 rfl
theorem q307 : (Jvm.Cond.arrayOver (Jvm.ClassFile.FieldType.object "ChainParts$FaceCell")) ∈ lw_tbl := lw_at lw_m1 236 rfl
theorem q339 : (Jvm.Cond.arrayClass Jvm.ClassFile.FieldType.int) ∈ lw_all := lw_g (lw_at lw_m2 28 rfl) rfl
theorem q358 : (Jvm.Cond.arrayOver (Jvm.ClassFile.FieldType.array Jvm.ClassFile.FieldType.int)) ∈ lw_tbl := lw_at lw_m2 47 rfl
theorem q595 : (Jvm.Cond.arrayOver (Jvm.ClassFile.FieldType.object "ChainParts$Cell")) ∈ lw_tbl := lw_at lw_m3 44 rfl
theorem q597 : (Jvm.Cond.arrayOver (Jvm.ClassFile.FieldType.object "ChainParts$PointCell")) ∈ lw_tbl := lw_at lw_m3 46 rfl
theorem q598 : (Jvm.Cond.arrayOver (Jvm.ClassFile.FieldType.object "ChainParts$LoopCell")) ∈ lw_tbl := lw_at lw_m3 47 rfl
theorem q599 : (Jvm.Cond.arrayOver (Jvm.ClassFile.FieldType.object "ChainParts$SealedCell")) ∈ lw_tbl := lw_at lw_m3 48 rfl
theorem q622 : (Jvm.Cond.arrayOver (Jvm.ClassFile.FieldType.array Jvm.ClassFile.FieldType.long)) ∈ lw_tbl := lw_at lw_m3 71 rfl
theorem q637 : (Jvm.Cond.arrayClass Jvm.ClassFile.FieldType.long) ∈ lw_all := lw_g (lw_at lw_m3 86 rfl) rfl
theorem q831 : (Jvm.Cond.arrayOver (Jvm.ClassFile.FieldType.object "ChainParts$Fraction")) ∈ lw_tbl := lw_at lw_m4 40 rfl
theorem q1006 : (Jvm.Cond.arrayClass Jvm.ClassFile.FieldType.boolean) ∈ lw_all := lw_g (lw_at lw_m4 215 rfl) rfl
theorem q492 : (Jvm.Cond.sameMethod "[I" "java/lang/Object" "clone" "()Ljava/lang/Object;") ∈ lw_all := lw_g (lw_at lw_m2 181 rfl) rfl
set_option maxRecDepth 100000
theorem q495 : (Jvm.Cond.selects "[I" ({ cls := "[I", name := "clone", desc := "()Ljava/lang/Object;" } : Jvm.MethodName) ({ cls := "java/lang/Object", name := "clone", desc := "()Ljava/lang/Object;" } : Jvm.MethodName)) ∈ lw_all := lw_g (lw_at lw_m2 184 rfl) rfl
theorem q496 : (Jvm.Cond.castable "[I" "java/lang/Cloneable") ∈ lw_tbl := lw_at lw_m2 185 rfl
theorem q520 : (Jvm.Cond.sameMethod "[[I" "java/lang/Object" "clone" "()Ljava/lang/Object;") ∈ lw_all := lw_g (lw_at lw_m2 209 rfl) rfl
set_option maxRecDepth 100000
theorem q521 : (Jvm.Cond.selects "[[I" ({ cls := "[[I", name := "clone", desc := "()Ljava/lang/Object;" } : Jvm.MethodName) ({ cls := "java/lang/Object", name := "clone", desc := "()Ljava/lang/Object;" } : Jvm.MethodName)) ∈ lw_all := lw_g (lw_at lw_m2 210 rfl) rfl
theorem q522 : (Jvm.Cond.castable "[[I" "java/lang/Cloneable") ∈ lw_tbl := lw_at lw_m2 211 rfl
theorem q671 : (Jvm.Cond.sameMethod "[J" "java/lang/Object" "clone" "()Ljava/lang/Object;") ∈ lw_all := lw_g (lw_at lw_m3 120 rfl) rfl
set_option maxRecDepth 100000
theorem q672 : (Jvm.Cond.selects "[J" ({ cls := "[J", name := "clone", desc := "()Ljava/lang/Object;" } : Jvm.MethodName) ({ cls := "java/lang/Object", name := "clone", desc := "()Ljava/lang/Object;" } : Jvm.MethodName)) ∈ lw_all := lw_g (lw_at lw_m3 121 rfl) rfl
theorem q673 : (Jvm.Cond.castable "[J" "java/lang/Cloneable") ∈ lw_tbl := lw_at lw_m3 122 rfl
theorem q81 : (Jvm.Cond.initialized "java/lang/System") ∈ lw_all := lw_g (lw_at lw_m1 10 rfl) rfl
set_option maxRecDepth 100000
theorem q316 : (Jvm.Cond.static ({ cls := "java/lang/System", name := "arraycopy", desc := "(Ljava/lang/Object;ILjava/lang/Object;II)V" } : Jvm.MethodName)) ∈ lw_all := lw_g (lw_at lw_m2 5 rfl) rfl
theorem q317 : (Jvm.Cond.native ({ cls := "java/lang/System", name := "arraycopy", desc := "(Ljava/lang/Object;ILjava/lang/Object;II)V" } : Jvm.MethodName)) ∈ lw_all := lw_g (lw_at lw_m2 6 rfl) rfl
theorem q71 : (Jvm.Cond.initialized "ChainPartsLaw") ∈ lw_all := lw_g (lw_at lw_m1 0 rfl) rfl
set_option maxRecDepth 100000
theorem q93 : (Jvm.Cond.classLink "ChainPartsLaw" (7 : Nat) "ChainParts") ∈ lw_all := lw_g (lw_at lw_m1 22 rfl) rfl
theorem q95 : (Jvm.Cond.methodLink "ChainPartsLaw" (9 : Nat) ({ cls := "ChainParts", name := "<init>", desc := "()V" } : Jvm.MethodName)) ∈ lw_all := lw_g (lw_at lw_m1 24 rfl) rfl
theorem q126 : (Jvm.Cond.methodLink "ChainPartsLaw" (13 : Nat) ({ cls := "ChainParts", name := "feed", desc := "(I)I" } : Jvm.MethodName)) ∈ lw_all := lw_g (lw_at lw_m1 55 rfl) rfl
theorem q136 : (Jvm.Cond.methodLink "ChainPartsLaw" (18 : Nat) ({ cls := "ChainParts", name := "complex", desc := "()I" } : Jvm.MethodName)) ∈ lw_all := lw_g (lw_at lw_m1 65 rfl) rfl
theorem q381 : (Jvm.Cond.methodLink "ChainPartsLaw" (23 : Nat) ({ cls := "ChainParts", name := "fault", desc := "()I" } : Jvm.MethodName)) ∈ lw_all := lw_g (lw_at lw_m2 70 rfl) rfl
theorem q385 : (Jvm.Cond.methodLink "ChainPartsLaw" (27 : Nat) ({ cls := "ChainParts", name := "undo", desc := "()I" } : Jvm.MethodName)) ∈ lw_all := lw_g (lw_at lw_m2 74 rfl) rfl
theorem q390 : (Jvm.Cond.methodLink "ChainPartsLaw" (31 : Nat) ({ cls := "ChainParts", name := "weigh", desc := "(III)I" } : Jvm.MethodName)) ∈ lw_all := lw_g (lw_at lw_m2 79 rfl) rfl
theorem q451 : (Jvm.Cond.methodLink "ChainPartsLaw" (36 : Nat) ({ cls := "ChainParts", name := "edge", desc := "(III)I" } : Jvm.MethodName)) ∈ lw_all := lw_g (lw_at lw_m2 140 rfl) rfl
theorem q456 : (Jvm.Cond.methodLink "ChainPartsLaw" (40 : Nat) ({ cls := "ChainParts", name := "face", desc := "(I)I" } : Jvm.MethodName)) ∈ lw_all := lw_g (lw_at lw_m2 145 rfl) rfl
theorem q467 : (Jvm.Cond.methodLink "ChainPartsLaw" (44 : Nat) ({ cls := "ChainParts", name := "drop", desc := "(II)I" } : Jvm.MethodName)) ∈ lw_all := lw_g (lw_at lw_m2 156 rfl) rfl
theorem q504 : (Jvm.Cond.methodLink "ChainPartsLaw" (49 : Nat) ({ cls := "ChainParts", name := "put", desc := "(III)I" } : Jvm.MethodName)) ∈ lw_all := lw_g (lw_at lw_m2 193 rfl) rfl
theorem q523 : (Jvm.Cond.methodLink "ChainPartsLaw" (53 : Nat) ({ cls := "ChainParts", name := "bound", desc := "(III)I" } : Jvm.MethodName)) ∈ lw_all := lw_g (lw_at lw_m2 212 rfl) rfl
theorem q530 : (Jvm.Cond.methodLink "ChainPartsLaw" (57 : Nat) ({ cls := "ChainParts", name := "drawn", desc := "(II)I" } : Jvm.MethodName)) ∈ lw_all := lw_g (lw_at lw_m2 219 rfl) rfl
theorem q538 : (Jvm.Cond.methodLink "ChainPartsLaw" (61 : Nat) ({ cls := "ChainParts", name := "cell", desc := "(III)I" } : Jvm.MethodName)) ∈ lw_all := lw_g (lw_at lw_m2 227 rfl) rfl
theorem q562 : (Jvm.Cond.methodLink "ChainPartsLaw" (65 : Nat) ({ cls := "ChainParts", name := "as", desc := "(III)I" } : Jvm.MethodName)) ∈ lw_all := lw_g (lw_at lw_m3 11 rfl) rfl
theorem q607 : (Jvm.Cond.methodLink "ChainPartsLaw" (69 : Nat) ({ cls := "ChainParts", name := "table", desc := "(III)I" } : Jvm.MethodName)) ∈ lw_all := lw_g (lw_at lw_m3 56 rfl) rfl
theorem q639 : (Jvm.Cond.methodLink "ChainPartsLaw" (73 : Nat) ({ cls := "ChainParts", name := "near", desc := "(III)I" } : Jvm.MethodName)) ∈ lw_all := lw_g (lw_at lw_m3 88 rfl) rfl
theorem q675 : (Jvm.Cond.methodLink "ChainPartsLaw" (77 : Nat) ({ cls := "ChainParts", name := "rank", desc := "(II)I" } : Jvm.MethodName)) ∈ lw_all := lw_g (lw_at lw_m3 124 rfl) rfl
theorem q729 : (Jvm.Cond.methodLink "ChainPartsLaw" (81 : Nat) ({ cls := "ChainParts", name := "holes", desc := "(II)I" } : Jvm.MethodName)) ∈ lw_all := lw_g (lw_at lw_m3 178 rfl) rfl
theorem q739 : (Jvm.Cond.methodLink "ChainPartsLaw" (85 : Nat) ({ cls := "ChainParts", name := "twist", desc := "(II)I" } : Jvm.MethodName)) ∈ lw_all := lw_g (lw_at lw_m3 188 rfl) rfl
theorem q770 : (Jvm.Cond.methodLink "ChainPartsLaw" (89 : Nat) ({ cls := "ChainParts", name := "chain", desc := "(II)I" } : Jvm.MethodName)) ∈ lw_all := lw_g (lw_at lw_m3 219 rfl) rfl
theorem q774 : (Jvm.Cond.methodLink "ChainPartsLaw" (93 : Nat) ({ cls := "ChainParts", name := "ends", desc := "(II)I" } : Jvm.MethodName)) ∈ lw_all := lw_g (lw_at lw_m3 223 rfl) rfl
theorem q782 : (Jvm.Cond.methodLink "ChainPartsLaw" (97 : Nat) ({ cls := "ChainParts", name := "whole", desc := "(II)I" } : Jvm.MethodName)) ∈ lw_all := lw_g (lw_at lw_m3 231 rfl) rfl
theorem q804 : (Jvm.Cond.methodLink "ChainPartsLaw" (101 : Nat) ({ cls := "ChainParts", name := "part", desc := "(IIII)J" } : Jvm.MethodName)) ∈ lw_all := lw_g (lw_at lw_m4 13 rfl) rfl
theorem q867 : (Jvm.Cond.methodLink "ChainPartsLaw" (106 : Nat) ({ cls := "ChainParts", name := "length", desc := "(III)J" } : Jvm.MethodName)) ∈ lw_all := lw_g (lw_at lw_m4 76 rfl) rfl
theorem q877 : (Jvm.Cond.methodLink "ChainPartsLaw" (111 : Nat) ({ cls := "ChainParts", name := "share", desc := "(II)I" } : Jvm.MethodName)) ∈ lw_all := lw_g (lw_at lw_m4 86 rfl) rfl
theorem q890 : (Jvm.Cond.methodLink "ChainPartsLaw" (115 : Nat) ({ cls := "ChainParts", name := "trees", desc := "(II)J" } : Jvm.MethodName)) ∈ lw_all := lw_g (lw_at lw_m4 99 rfl) rfl
theorem q900 : (Jvm.Cond.methodLink "ChainPartsLaw" (120 : Nat) ({ cls := "ChainParts", name := "minors", desc := "(I)J" } : Jvm.MethodName)) ∈ lw_all := lw_g (lw_at lw_m4 109 rfl) rfl
theorem q915 : (Jvm.Cond.methodLink "ChainPartsLaw" (125 : Nat) ({ cls := "ChainParts", name := "image", desc := "(I)I" } : Jvm.MethodName)) ∈ lw_all := lw_g (lw_at lw_m4 124 rfl) rfl
theorem q919 : (Jvm.Cond.methodLink "ChainPartsLaw" (129 : Nat) ({ cls := "ChainParts", name := "restore", desc := "(I)I" } : Jvm.MethodName)) ∈ lw_all := lw_g (lw_at lw_m4 128 rfl) rfl
theorem q923 : (Jvm.Cond.methodLink "ChainPartsLaw" (133 : Nat) ({ cls := "ChainParts", name := "count", desc := "(I)I" } : Jvm.MethodName)) ∈ lw_all := lw_g (lw_at lw_m4 132 rfl) rfl
theorem q927 : (Jvm.Cond.classLink "ChainPartsLaw" (10 : Nat) "ChainPartsModel") ∈ lw_all := lw_g (lw_at lw_m4 136 rfl) rfl
theorem q929 : (Jvm.Cond.methodLink "ChainPartsLaw" (12 : Nat) ({ cls := "ChainPartsModel", name := "<init>", desc := "()V" } : Jvm.MethodName)) ∈ lw_all := lw_g (lw_at lw_m4 138 rfl) rfl
theorem q1007 : (Jvm.Cond.methodLink "ChainPartsLaw" (17 : Nat) ({ cls := "ChainPartsModel", name := "feed", desc := "(I)I" } : Jvm.MethodName)) ∈ lw_all := lw_g (lw_at lw_m4 216 rfl) rfl
theorem q1017 : (Jvm.Cond.methodLink "ChainPartsLaw" (22 : Nat) ({ cls := "ChainPartsModel", name := "complex", desc := "()I" } : Jvm.MethodName)) ∈ lw_all := lw_g (lw_at lw_m4 226 rfl) rfl
theorem q1104 : (Jvm.Cond.methodLink "ChainPartsLaw" (26 : Nat) ({ cls := "ChainPartsModel", name := "fault", desc := "()I" } : Jvm.MethodName)) ∈ lw_all := lw_g (lw_at lw_m5 73 rfl) rfl
theorem q1108 : (Jvm.Cond.methodLink "ChainPartsLaw" (30 : Nat) ({ cls := "ChainPartsModel", name := "undo", desc := "()I" } : Jvm.MethodName)) ∈ lw_all := lw_g (lw_at lw_m5 77 rfl) rfl
theorem q1113 : (Jvm.Cond.methodLink "ChainPartsLaw" (35 : Nat) ({ cls := "ChainPartsModel", name := "weigh", desc := "(III)I" } : Jvm.MethodName)) ∈ lw_all := lw_g (lw_at lw_m5 82 rfl) rfl
theorem q1130 : (Jvm.Cond.methodLink "ChainPartsLaw" (39 : Nat) ({ cls := "ChainPartsModel", name := "edge", desc := "(III)I" } : Jvm.MethodName)) ∈ lw_all := lw_g (lw_at lw_m5 99 rfl) rfl
theorem q1138 : (Jvm.Cond.methodLink "ChainPartsLaw" (43 : Nat) ({ cls := "ChainPartsModel", name := "face", desc := "(I)I" } : Jvm.MethodName)) ∈ lw_all := lw_g (lw_at lw_m5 107 rfl) rfl
theorem q1147 : (Jvm.Cond.methodLink "ChainPartsLaw" (48 : Nat) ({ cls := "ChainPartsModel", name := "drop", desc := "(II)I" } : Jvm.MethodName)) ∈ lw_all := lw_g (lw_at lw_m5 116 rfl) rfl
theorem q1159 : (Jvm.Cond.methodLink "ChainPartsLaw" (52 : Nat) ({ cls := "ChainPartsModel", name := "put", desc := "(III)I" } : Jvm.MethodName)) ∈ lw_all := lw_g (lw_at lw_m5 128 rfl) rfl
theorem q1169 : (Jvm.Cond.methodLink "ChainPartsLaw" (56 : Nat) ({ cls := "ChainPartsModel", name := "bound", desc := "(III)I" } : Jvm.MethodName)) ∈ lw_all := lw_g (lw_at lw_m5 138 rfl) rfl
theorem q1181 : (Jvm.Cond.methodLink "ChainPartsLaw" (60 : Nat) ({ cls := "ChainPartsModel", name := "drawn", desc := "(II)I" } : Jvm.MethodName)) ∈ lw_all := lw_g (lw_at lw_m5 150 rfl) rfl
theorem q1189 : (Jvm.Cond.methodLink "ChainPartsLaw" (64 : Nat) ({ cls := "ChainPartsModel", name := "cell", desc := "(III)I" } : Jvm.MethodName)) ∈ lw_all := lw_g (lw_at lw_m5 158 rfl) rfl
theorem q1200 : (Jvm.Cond.methodLink "ChainPartsLaw" (68 : Nat) ({ cls := "ChainPartsModel", name := "as", desc := "(III)I" } : Jvm.MethodName)) ∈ lw_all := lw_g (lw_at lw_m5 169 rfl) rfl
theorem q1209 : (Jvm.Cond.methodLink "ChainPartsLaw" (72 : Nat) ({ cls := "ChainPartsModel", name := "table", desc := "(III)I" } : Jvm.MethodName)) ∈ lw_all := lw_g (lw_at lw_m5 178 rfl) rfl
theorem q1229 : (Jvm.Cond.methodLink "ChainPartsLaw" (76 : Nat) ({ cls := "ChainPartsModel", name := "near", desc := "(III)I" } : Jvm.MethodName)) ∈ lw_all := lw_g (lw_at lw_m5 198 rfl) rfl
theorem q1241 : (Jvm.Cond.methodLink "ChainPartsLaw" (80 : Nat) ({ cls := "ChainPartsModel", name := "rank", desc := "(II)I" } : Jvm.MethodName)) ∈ lw_all := lw_g (lw_at lw_m5 210 rfl) rfl
theorem q1311 : (Jvm.Cond.methodLink "ChainPartsLaw" (84 : Nat) ({ cls := "ChainPartsModel", name := "holes", desc := "(II)I" } : Jvm.MethodName)) ∈ lw_all := lw_g (lw_at lw_m6 40 rfl) rfl
theorem q1315 : (Jvm.Cond.methodLink "ChainPartsLaw" (88 : Nat) ({ cls := "ChainPartsModel", name := "twist", desc := "(II)I" } : Jvm.MethodName)) ∈ lw_all := lw_g (lw_at lw_m6 44 rfl) rfl
theorem q1319 : (Jvm.Cond.methodLink "ChainPartsLaw" (92 : Nat) ({ cls := "ChainPartsModel", name := "chain", desc := "(II)I" } : Jvm.MethodName)) ∈ lw_all := lw_g (lw_at lw_m6 48 rfl) rfl
theorem q1323 : (Jvm.Cond.methodLink "ChainPartsLaw" (96 : Nat) ({ cls := "ChainPartsModel", name := "ends", desc := "(II)I" } : Jvm.MethodName)) ∈ lw_all := lw_g (lw_at lw_m6 52 rfl) rfl
theorem q1331 : (Jvm.Cond.methodLink "ChainPartsLaw" (100 : Nat) ({ cls := "ChainPartsModel", name := "whole", desc := "(II)I" } : Jvm.MethodName)) ∈ lw_all := lw_g (lw_at lw_m6 60 rfl) rfl
theorem q1343 : (Jvm.Cond.methodLink "ChainPartsLaw" (105 : Nat) ({ cls := "ChainPartsModel", name := "part", desc := "(IIII)J" } : Jvm.MethodName)) ∈ lw_all := lw_g (lw_at lw_m6 72 rfl) rfl
theorem q1384 : (Jvm.Cond.methodLink "ChainPartsLaw" (110 : Nat) ({ cls := "ChainPartsModel", name := "length", desc := "(III)J" } : Jvm.MethodName)) ∈ lw_all := lw_g (lw_at lw_m6 113 rfl) rfl
theorem q1393 : (Jvm.Cond.methodLink "ChainPartsLaw" (114 : Nat) ({ cls := "ChainPartsModel", name := "share", desc := "(II)I" } : Jvm.MethodName)) ∈ lw_all := lw_g (lw_at lw_m6 122 rfl) rfl
theorem q1398 : (Jvm.Cond.methodLink "ChainPartsLaw" (119 : Nat) ({ cls := "ChainPartsModel", name := "trees", desc := "(II)J" } : Jvm.MethodName)) ∈ lw_all := lw_g (lw_at lw_m6 127 rfl) rfl
theorem q1406 : (Jvm.Cond.methodLink "ChainPartsLaw" (124 : Nat) ({ cls := "ChainPartsModel", name := "minors", desc := "(I)J" } : Jvm.MethodName)) ∈ lw_all := lw_g (lw_at lw_m6 135 rfl) rfl
theorem q1410 : (Jvm.Cond.methodLink "ChainPartsLaw" (128 : Nat) ({ cls := "ChainPartsModel", name := "image", desc := "(I)I" } : Jvm.MethodName)) ∈ lw_all := lw_g (lw_at lw_m6 139 rfl) rfl
theorem q1414 : (Jvm.Cond.methodLink "ChainPartsLaw" (132 : Nat) ({ cls := "ChainPartsModel", name := "restore", desc := "(I)I" } : Jvm.MethodName)) ∈ lw_all := lw_g (lw_at lw_m6 143 rfl) rfl
theorem q1418 : (Jvm.Cond.methodLink "ChainPartsLaw" (136 : Nat) ({ cls := "ChainPartsModel", name := "count", desc := "(I)I" } : Jvm.MethodName)) ∈ lw_all := lw_g (lw_at lw_m6 147 rfl) rfl
