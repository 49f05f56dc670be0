/-! ChainParts$Table -/
set_option maxRecDepth 100000
def RX11 : String := "ChainParts$Table"
def TX11 : u_T := fun k => match k with
  | 0 => ("ChainParts$Table", "at", "[[J", true)
  | 1 => ("ChainParts$Table", "rows", "I", true)
  | _ => ("ChainParts$Table", "columns", "I", true)
def tyX11 : Nat → FieldType := fun k => match k with
  | 0 => .array (.array .long)
  | 1 => .int
  | _ => .int
abbrev wsX110 : List Cond := u_ws RX11 TX11 3
theorem nmX11 : ∀ a, a < 3 → ∀ b, b < 3 → a ≠ b → (TX11 a).2.1 ≠ (TX11 b).2.1 := by decide +kernel
theorem tyX11_ok : ∀ k, k < 3 → parseFieldDescriptor (TX11 k).2.2.1 = some (tyX11 k) := by decide +kernel
abbrev cX11_init : ByteArray := prog_12_method_1_code
def yX11_init : MethodName := ⟨RX11, "<init>", "(II)V"⟩
def dkwX11_init_1 : List UInt8 := [177]
abbrev dktX11_init_1 : List UInt8 := dkwX11_init_1 ++ []
def dkwX11_init_0 : List UInt8 := [42, 183, 0, 3, 42, 27, 181, 0, 9, 42, 28, 181, 0, 15, 42, 27, 28, 197, 0, 18, 2, 181, 0, 20]
abbrev dktX11_init_0 : List UInt8 := dkwX11_init_0 ++ dktX11_init_1
theorem dksX11_init_0 : cX11_init.data.toList.drop 0 = dktX11_init_0 := by decide +kernel
theorem dksX11_init_1 : cX11_init.data.toList.drop 24 = dktX11_init_1 := dk_seg dksX11_init_0 24 rfl rfl
theorem dX11_init_0 : decode cX11_init 0 = .ok (.aload_n 0, 1) := dk_42 (dk_at dksX11_init_0 0 rfl rfl)
theorem dX11_init_1 : decode cX11_init 1 = .ok (.invokespecial 3, 3) := dk_183 0 3 (dk_at dksX11_init_0 1 rfl rfl)
theorem dX11_init_4 : decode cX11_init 4 = .ok (.aload_n 0, 1) := dk_42 (dk_at dksX11_init_0 4 rfl rfl)
theorem dX11_init_5 : decode cX11_init 5 = .ok (.iload_n 1, 1) := dk_27 (dk_at dksX11_init_0 5 rfl rfl)
theorem dX11_init_6 : decode cX11_init 6 = .ok (.putfield 9, 3) := dk_181 0 9 (dk_at dksX11_init_0 6 rfl rfl)
theorem dX11_init_9 : decode cX11_init 9 = .ok (.aload_n 0, 1) := dk_42 (dk_at dksX11_init_0 9 rfl rfl)
theorem dX11_init_10 : decode cX11_init 10 = .ok (.iload_n 2, 1) := dk_28 (dk_at dksX11_init_0 10 rfl rfl)
theorem dX11_init_11 : decode cX11_init 11 = .ok (.putfield 15, 3) := dk_181 0 15 (dk_at dksX11_init_0 11 rfl rfl)
theorem dX11_init_14 : decode cX11_init 14 = .ok (.aload_n 0, 1) := dk_42 (dk_at dksX11_init_0 14 rfl rfl)
theorem dX11_init_15 : decode cX11_init 15 = .ok (.iload_n 1, 1) := dk_27 (dk_at dksX11_init_0 15 rfl rfl)
theorem dX11_init_16 : decode cX11_init 16 = .ok (.iload_n 2, 1) := dk_28 (dk_at dksX11_init_0 16 rfl rfl)
theorem dX11_init_17 : decode cX11_init 17 = .ok (.multianewarray 18 2, 4) := by decide +kernel
theorem dX11_init_21 : decode cX11_init 21 = .ok (.putfield 20, 3) := dk_181 0 20 (dk_at dksX11_init_0 21 rfl rfl)
theorem dX11_init_24 : decode cX11_init 24 = .ok (.return_, 1) := dk_177 (dk_at dksX11_init_1 0 rfl rfl)
abbrev cX11_turned : ByteArray := prog_12_method_3_code
def yX11_turned : MethodName := ⟨RX11, "turned", "()LChainParts$Table;"⟩
def dkwX11_turned_2 : List UInt8 := [28, 50, 29, 47, 80, 132, 3, 1, 167, 255, 229, 132, 2, 1, 167, 255, 213, 43, 176]
abbrev dktX11_turned_2 : List UInt8 := dkwX11_turned_2 ++ []
def dkwX11_turned_1 : List UInt8 := [162, 0, 41, 3, 62, 29, 42, 180, 0, 15, 162, 0, 25, 43, 180, 0, 20, 29, 50, 28, 42, 180, 0, 20]
abbrev dktX11_turned_1 : List UInt8 := dkwX11_turned_1 ++ dktX11_turned_2
def dkwX11_turned_0 : List UInt8 := [187, 0, 10, 89, 42, 180, 0, 15, 42, 180, 0, 9, 183, 0, 23, 76, 3, 61, 28, 42, 180, 0, 9]
abbrev dktX11_turned_0 : List UInt8 := dkwX11_turned_0 ++ dktX11_turned_1
theorem dksX11_turned_0 : cX11_turned.data.toList.drop 0 = dktX11_turned_0 := by decide +kernel
theorem dksX11_turned_1 : cX11_turned.data.toList.drop 23 = dktX11_turned_1 := dk_seg dksX11_turned_0 23 rfl rfl
theorem dksX11_turned_2 : cX11_turned.data.toList.drop 47 = dktX11_turned_2 := dk_seg dksX11_turned_1 24 rfl rfl
theorem dX11_turned_0 : decode cX11_turned 0 = .ok (.new 10, 3) := dk_187 0 10 (dk_at dksX11_turned_0 0 rfl rfl)
theorem dX11_turned_3 : decode cX11_turned 3 = .ok (.dup, 1) := dk_89 (dk_at dksX11_turned_0 3 rfl rfl)
theorem dX11_turned_4 : decode cX11_turned 4 = .ok (.aload_n 0, 1) := dk_42 (dk_at dksX11_turned_0 4 rfl rfl)
theorem dX11_turned_5 : decode cX11_turned 5 = .ok (.getfield 15, 3) := dk_180 0 15 (dk_at dksX11_turned_0 5 rfl rfl)
theorem dX11_turned_8 : decode cX11_turned 8 = .ok (.aload_n 0, 1) := dk_42 (dk_at dksX11_turned_0 8 rfl rfl)
theorem dX11_turned_9 : decode cX11_turned 9 = .ok (.getfield 9, 3) := dk_180 0 9 (dk_at dksX11_turned_0 9 rfl rfl)
theorem dX11_turned_12 : decode cX11_turned 12 = .ok (.invokespecial 23, 3) := dk_183 0 23 (dk_at dksX11_turned_0 12 rfl rfl)
theorem dX11_turned_15 : decode cX11_turned 15 = .ok (.astore_n 1, 1) := dk_76 (dk_at dksX11_turned_0 15 rfl rfl)
theorem dX11_turned_16 : decode cX11_turned 16 = .ok (.iconst 0, 1) := dk_3 (dk_at dksX11_turned_0 16 rfl rfl)
theorem dX11_turned_17 : decode cX11_turned 17 = .ok (.istore_n 2, 1) := dk_61 (dk_at dksX11_turned_0 17 rfl rfl)
theorem dX11_turned_18 : decode cX11_turned 18 = .ok (.iload_n 2, 1) := dk_28 (dk_at dksX11_turned_0 18 rfl rfl)
theorem dX11_turned_19 : decode cX11_turned 19 = .ok (.aload_n 0, 1) := dk_42 (dk_at dksX11_turned_0 19 rfl rfl)
theorem dX11_turned_20 : decode cX11_turned 20 = .ok (.getfield 9, 3) := dk_180 0 9 (dk_at dksX11_turned_0 20 rfl rfl)
theorem dX11_turned_23 : decode cX11_turned 23 = .ok (.if_icmp .ge 41, 3) := dk_162 0 41 (dk_at dksX11_turned_1 0 rfl rfl)
theorem dX11_turned_26 : decode cX11_turned 26 = .ok (.iconst 0, 1) := dk_3 (dk_at dksX11_turned_1 3 rfl rfl)
theorem dX11_turned_27 : decode cX11_turned 27 = .ok (.istore_n 3, 1) := dk_62 (dk_at dksX11_turned_1 4 rfl rfl)
theorem dX11_turned_28 : decode cX11_turned 28 = .ok (.iload_n 3, 1) := dk_29 (dk_at dksX11_turned_1 5 rfl rfl)
theorem dX11_turned_29 : decode cX11_turned 29 = .ok (.aload_n 0, 1) := dk_42 (dk_at dksX11_turned_1 6 rfl rfl)
theorem dX11_turned_30 : decode cX11_turned 30 = .ok (.getfield 15, 3) := dk_180 0 15 (dk_at dksX11_turned_1 7 rfl rfl)
theorem dX11_turned_33 : decode cX11_turned 33 = .ok (.if_icmp .ge 25, 3) := dk_162 0 25 (dk_at dksX11_turned_1 10 rfl rfl)
theorem dX11_turned_36 : decode cX11_turned 36 = .ok (.aload_n 1, 1) := dk_43 (dk_at dksX11_turned_1 13 rfl rfl)
theorem dX11_turned_37 : decode cX11_turned 37 = .ok (.getfield 20, 3) := dk_180 0 20 (dk_at dksX11_turned_1 14 rfl rfl)
theorem dX11_turned_40 : decode cX11_turned 40 = .ok (.iload_n 3, 1) := dk_29 (dk_at dksX11_turned_1 17 rfl rfl)
theorem dX11_turned_41 : decode cX11_turned 41 = .ok (.aaload, 1) := dk_50 (dk_at dksX11_turned_1 18 rfl rfl)
theorem dX11_turned_42 : decode cX11_turned 42 = .ok (.iload_n 2, 1) := dk_28 (dk_at dksX11_turned_1 19 rfl rfl)
theorem dX11_turned_43 : decode cX11_turned 43 = .ok (.aload_n 0, 1) := dk_42 (dk_at dksX11_turned_1 20 rfl rfl)
theorem dX11_turned_44 : decode cX11_turned 44 = .ok (.getfield 20, 3) := dk_180 0 20 (dk_at dksX11_turned_1 21 rfl rfl)
theorem dX11_turned_47 : decode cX11_turned 47 = .ok (.iload_n 2, 1) := dk_28 (dk_at dksX11_turned_2 0 rfl rfl)
theorem dX11_turned_48 : decode cX11_turned 48 = .ok (.aaload, 1) := dk_50 (dk_at dksX11_turned_2 1 rfl rfl)
theorem dX11_turned_49 : decode cX11_turned 49 = .ok (.iload_n 3, 1) := dk_29 (dk_at dksX11_turned_2 2 rfl rfl)
theorem dX11_turned_50 : decode cX11_turned 50 = .ok (.laload, 1) := dk_47 (dk_at dksX11_turned_2 3 rfl rfl)
theorem dX11_turned_51 : decode cX11_turned 51 = .ok (.lastore, 1) := dk_80 (dk_at dksX11_turned_2 4 rfl rfl)
theorem dX11_turned_52 : decode cX11_turned 52 = .ok (.iinc 3 1, 3) := dk_132 3 1 (dk_at dksX11_turned_2 5 rfl rfl)
theorem dX11_turned_55 : decode cX11_turned 55 = .ok (.goto (-27), 3) := dk_167 255 229 (dk_at dksX11_turned_2 8 rfl rfl)
theorem dX11_turned_58 : decode cX11_turned 58 = .ok (.iinc 2 1, 3) := dk_132 2 1 (dk_at dksX11_turned_2 11 rfl rfl)
theorem dX11_turned_61 : decode cX11_turned 61 = .ok (.goto (-43), 3) := dk_167 255 213 (dk_at dksX11_turned_2 14 rfl rfl)
theorem dX11_turned_64 : decode cX11_turned 64 = .ok (.aload_n 1, 1) := dk_43 (dk_at dksX11_turned_2 17 rfl rfl)
theorem dX11_turned_65 : decode cX11_turned 65 = .ok (.areturn, 1) := dk_176 (dk_at dksX11_turned_2 18 rfl rfl)
abbrev cX11_times : ByteArray := prog_12_method_4_code
def yX11_times : MethodName := ⟨RX11, "times", "(LChainParts$Table;)LChainParts$Table;"⟩
def dkwX11_times_4 : List UInt8 := [132, 3, 1, 167, 255, 177, 44, 176]
abbrev dktX11_times_4 : List UInt8 := dkwX11_times_4 ++ []
def dkwX11_times_3 : List UInt8 := [180, 0, 20, 21, 5, 50, 21, 4, 47, 105, 97, 80, 132, 5, 1, 167, 255, 212, 132, 4, 1, 167, 255, 194]
abbrev dktX11_times_3 : List UInt8 := dkwX11_times_3 ++ dktX11_times_4
def dkwX11_times_2 : List UInt8 := [162, 0, 41, 44, 180, 0, 20, 29, 50, 21, 4, 92, 47, 42, 180, 0, 20, 29, 50, 21, 5, 47, 43]
abbrev dktX11_times_2 : List UInt8 := dkwX11_times_2 ++ dktX11_times_3
def dkwX11_times_1 : List UInt8 := [162, 0, 77, 3, 54, 4, 21, 4, 43, 180, 0, 15, 162, 0, 59, 3, 54, 5, 21, 5, 42, 180, 0, 15]
abbrev dktX11_times_1 : List UInt8 := dkwX11_times_1 ++ dktX11_times_2
def dkwX11_times_0 : List UInt8 := [187, 0, 10, 89, 42, 180, 0, 9, 43, 180, 0, 15, 183, 0, 23, 77, 3, 62, 29, 42, 180, 0, 9]
abbrev dktX11_times_0 : List UInt8 := dkwX11_times_0 ++ dktX11_times_1
theorem dksX11_times_0 : cX11_times.data.toList.drop 0 = dktX11_times_0 := by decide +kernel
theorem dksX11_times_1 : cX11_times.data.toList.drop 23 = dktX11_times_1 := dk_seg dksX11_times_0 23 rfl rfl
theorem dksX11_times_2 : cX11_times.data.toList.drop 47 = dktX11_times_2 := dk_seg dksX11_times_1 24 rfl rfl
theorem dksX11_times_3 : cX11_times.data.toList.drop 70 = dktX11_times_3 := dk_seg dksX11_times_2 23 rfl rfl
theorem dksX11_times_4 : cX11_times.data.toList.drop 94 = dktX11_times_4 := dk_seg dksX11_times_3 24 rfl rfl
theorem dX11_times_0 : decode cX11_times 0 = .ok (.new 10, 3) := dk_187 0 10 (dk_at dksX11_times_0 0 rfl rfl)
theorem dX11_times_3 : decode cX11_times 3 = .ok (.dup, 1) := dk_89 (dk_at dksX11_times_0 3 rfl rfl)
theorem dX11_times_4 : decode cX11_times 4 = .ok (.aload_n 0, 1) := dk_42 (dk_at dksX11_times_0 4 rfl rfl)
theorem dX11_times_5 : decode cX11_times 5 = .ok (.getfield 9, 3) := dk_180 0 9 (dk_at dksX11_times_0 5 rfl rfl)
theorem dX11_times_8 : decode cX11_times 8 = .ok (.aload_n 1, 1) := dk_43 (dk_at dksX11_times_0 8 rfl rfl)
theorem dX11_times_9 : decode cX11_times 9 = .ok (.getfield 15, 3) := dk_180 0 15 (dk_at dksX11_times_0 9 rfl rfl)
theorem dX11_times_12 : decode cX11_times 12 = .ok (.invokespecial 23, 3) := dk_183 0 23 (dk_at dksX11_times_0 12 rfl rfl)
theorem dX11_times_15 : decode cX11_times 15 = .ok (.astore_n 2, 1) := dk_77 (dk_at dksX11_times_0 15 rfl rfl)
theorem dX11_times_16 : decode cX11_times 16 = .ok (.iconst 0, 1) := dk_3 (dk_at dksX11_times_0 16 rfl rfl)
theorem dX11_times_17 : decode cX11_times 17 = .ok (.istore_n 3, 1) := dk_62 (dk_at dksX11_times_0 17 rfl rfl)
theorem dX11_times_18 : decode cX11_times 18 = .ok (.iload_n 3, 1) := dk_29 (dk_at dksX11_times_0 18 rfl rfl)
theorem dX11_times_19 : decode cX11_times 19 = .ok (.aload_n 0, 1) := dk_42 (dk_at dksX11_times_0 19 rfl rfl)
theorem dX11_times_20 : decode cX11_times 20 = .ok (.getfield 9, 3) := dk_180 0 9 (dk_at dksX11_times_0 20 rfl rfl)
theorem dX11_times_23 : decode cX11_times 23 = .ok (.if_icmp .ge 77, 3) := dk_162 0 77 (dk_at dksX11_times_1 0 rfl rfl)
theorem dX11_times_26 : decode cX11_times 26 = .ok (.iconst 0, 1) := dk_3 (dk_at dksX11_times_1 3 rfl rfl)
theorem dX11_times_27 : decode cX11_times 27 = .ok (.istore 4, 2) := dk_54 4 (dk_at dksX11_times_1 4 rfl rfl)
theorem dX11_times_29 : decode cX11_times 29 = .ok (.iload 4, 2) := dk_21 4 (dk_at dksX11_times_1 6 rfl rfl)
theorem dX11_times_31 : decode cX11_times 31 = .ok (.aload_n 1, 1) := dk_43 (dk_at dksX11_times_1 8 rfl rfl)
theorem dX11_times_32 : decode cX11_times 32 = .ok (.getfield 15, 3) := dk_180 0 15 (dk_at dksX11_times_1 9 rfl rfl)
theorem dX11_times_35 : decode cX11_times 35 = .ok (.if_icmp .ge 59, 3) := dk_162 0 59 (dk_at dksX11_times_1 12 rfl rfl)
theorem dX11_times_38 : decode cX11_times 38 = .ok (.iconst 0, 1) := dk_3 (dk_at dksX11_times_1 15 rfl rfl)
theorem dX11_times_39 : decode cX11_times 39 = .ok (.istore 5, 2) := dk_54 5 (dk_at dksX11_times_1 16 rfl rfl)
theorem dX11_times_41 : decode cX11_times 41 = .ok (.iload 5, 2) := dk_21 5 (dk_at dksX11_times_1 18 rfl rfl)
theorem dX11_times_43 : decode cX11_times 43 = .ok (.aload_n 0, 1) := dk_42 (dk_at dksX11_times_1 20 rfl rfl)
theorem dX11_times_44 : decode cX11_times 44 = .ok (.getfield 15, 3) := dk_180 0 15 (dk_at dksX11_times_1 21 rfl rfl)
theorem dX11_times_47 : decode cX11_times 47 = .ok (.if_icmp .ge 41, 3) := dk_162 0 41 (dk_at dksX11_times_2 0 rfl rfl)
theorem dX11_times_50 : decode cX11_times 50 = .ok (.aload_n 2, 1) := dk_44 (dk_at dksX11_times_2 3 rfl rfl)
theorem dX11_times_51 : decode cX11_times 51 = .ok (.getfield 20, 3) := dk_180 0 20 (dk_at dksX11_times_2 4 rfl rfl)
theorem dX11_times_54 : decode cX11_times 54 = .ok (.iload_n 3, 1) := dk_29 (dk_at dksX11_times_2 7 rfl rfl)
theorem dX11_times_55 : decode cX11_times 55 = .ok (.aaload, 1) := dk_50 (dk_at dksX11_times_2 8 rfl rfl)
theorem dX11_times_56 : decode cX11_times 56 = .ok (.iload 4, 2) := dk_21 4 (dk_at dksX11_times_2 9 rfl rfl)
theorem dX11_times_58 : decode cX11_times 58 = .ok (.dup2, 1) := dk_92 (dk_at dksX11_times_2 11 rfl rfl)
theorem dX11_times_59 : decode cX11_times 59 = .ok (.laload, 1) := dk_47 (dk_at dksX11_times_2 12 rfl rfl)
theorem dX11_times_60 : decode cX11_times 60 = .ok (.aload_n 0, 1) := dk_42 (dk_at dksX11_times_2 13 rfl rfl)
theorem dX11_times_61 : decode cX11_times 61 = .ok (.getfield 20, 3) := dk_180 0 20 (dk_at dksX11_times_2 14 rfl rfl)
theorem dX11_times_64 : decode cX11_times 64 = .ok (.iload_n 3, 1) := dk_29 (dk_at dksX11_times_2 17 rfl rfl)
theorem dX11_times_65 : decode cX11_times 65 = .ok (.aaload, 1) := dk_50 (dk_at dksX11_times_2 18 rfl rfl)
theorem dX11_times_66 : decode cX11_times 66 = .ok (.iload 5, 2) := dk_21 5 (dk_at dksX11_times_2 19 rfl rfl)
theorem dX11_times_68 : decode cX11_times 68 = .ok (.laload, 1) := dk_47 (dk_at dksX11_times_2 21 rfl rfl)
theorem dX11_times_69 : decode cX11_times 69 = .ok (.aload_n 1, 1) := dk_43 (dk_at dksX11_times_2 22 rfl rfl)
theorem dX11_times_70 : decode cX11_times 70 = .ok (.getfield 20, 3) := dk_180 0 20 (dk_at dksX11_times_3 0 rfl rfl)
theorem dX11_times_73 : decode cX11_times 73 = .ok (.iload 5, 2) := dk_21 5 (dk_at dksX11_times_3 3 rfl rfl)
theorem dX11_times_75 : decode cX11_times 75 = .ok (.aaload, 1) := dk_50 (dk_at dksX11_times_3 5 rfl rfl)
theorem dX11_times_76 : decode cX11_times 76 = .ok (.iload 4, 2) := dk_21 4 (dk_at dksX11_times_3 6 rfl rfl)
theorem dX11_times_78 : decode cX11_times 78 = .ok (.laload, 1) := dk_47 (dk_at dksX11_times_3 8 rfl rfl)
theorem dX11_times_79 : decode cX11_times 79 = .ok (.lmul, 1) := dk_105 (dk_at dksX11_times_3 9 rfl rfl)
theorem dX11_times_80 : decode cX11_times 80 = .ok (.ladd, 1) := dk_97 (dk_at dksX11_times_3 10 rfl rfl)
theorem dX11_times_81 : decode cX11_times 81 = .ok (.lastore, 1) := dk_80 (dk_at dksX11_times_3 11 rfl rfl)
theorem dX11_times_82 : decode cX11_times 82 = .ok (.iinc 5 1, 3) := dk_132 5 1 (dk_at dksX11_times_3 12 rfl rfl)
theorem dX11_times_85 : decode cX11_times 85 = .ok (.goto (-44), 3) := dk_167 255 212 (dk_at dksX11_times_3 15 rfl rfl)
theorem dX11_times_88 : decode cX11_times 88 = .ok (.iinc 4 1, 3) := dk_132 4 1 (dk_at dksX11_times_3 18 rfl rfl)
theorem dX11_times_91 : decode cX11_times 91 = .ok (.goto (-62), 3) := dk_167 255 194 (dk_at dksX11_times_3 21 rfl rfl)
theorem dX11_times_94 : decode cX11_times 94 = .ok (.iinc 3 1, 3) := dk_132 3 1 (dk_at dksX11_times_4 0 rfl rfl)
theorem dX11_times_97 : decode cX11_times 97 = .ok (.goto (-79), 3) := dk_167 255 177 (dk_at dksX11_times_4 3 rfl rfl)
theorem dX11_times_100 : decode cX11_times 100 = .ok (.aload_n 2, 1) := dk_44 (dk_at dksX11_times_4 6 rfl rfl)
theorem dX11_times_101 : decode cX11_times 101 = .ok (.areturn, 1) := dk_176 (dk_at dksX11_times_4 7 rfl rfl)
abbrev cX11_weighed : ByteArray := prog_12_method_5_code
def yX11_weighed : MethodName := ⟨RX11, "weighed", "([I)LChainParts$Table;"⟩
def dkwX11_weighed_2 : List UInt8 := [167, 255, 227, 132, 3, 1, 167, 255, 210, 44, 176]
abbrev dktX11_weighed_2 : List UInt8 := dkwX11_weighed_2 ++ []
def dkwX11_weighed_1 : List UInt8 := [162, 0, 26, 44, 180, 0, 20, 29, 50, 21, 4, 92, 47, 43, 21, 4, 46, 133, 105, 80, 132, 4, 1]
abbrev dktX11_weighed_1 : List UInt8 := dkwX11_weighed_1 ++ dktX11_weighed_2
def dkwX11_weighed_0 : List UInt8 := [42, 182, 0, 32, 77, 3, 62, 29, 42, 180, 0, 9, 162, 0, 44, 3, 54, 4, 21, 4, 42, 180, 0, 15]
abbrev dktX11_weighed_0 : List UInt8 := dkwX11_weighed_0 ++ dktX11_weighed_1
theorem dksX11_weighed_0 : cX11_weighed.data.toList.drop 0 = dktX11_weighed_0 := by decide +kernel
theorem dksX11_weighed_1 : cX11_weighed.data.toList.drop 24 = dktX11_weighed_1 := dk_seg dksX11_weighed_0 24 rfl rfl
theorem dksX11_weighed_2 : cX11_weighed.data.toList.drop 47 = dktX11_weighed_2 := dk_seg dksX11_weighed_1 23 rfl rfl
theorem dX11_weighed_0 : decode cX11_weighed 0 = .ok (.aload_n 0, 1) := dk_42 (dk_at dksX11_weighed_0 0 rfl rfl)
theorem dX11_weighed_1 : decode cX11_weighed 1 = .ok (.invokevirtual 32, 3) := dk_182 0 32 (dk_at dksX11_weighed_0 1 rfl rfl)
theorem dX11_weighed_4 : decode cX11_weighed 4 = .ok (.astore_n 2, 1) := dk_77 (dk_at dksX11_weighed_0 4 rfl rfl)
theorem dX11_weighed_5 : decode cX11_weighed 5 = .ok (.iconst 0, 1) := dk_3 (dk_at dksX11_weighed_0 5 rfl rfl)
theorem dX11_weighed_6 : decode cX11_weighed 6 = .ok (.istore_n 3, 1) := dk_62 (dk_at dksX11_weighed_0 6 rfl rfl)
theorem dX11_weighed_7 : decode cX11_weighed 7 = .ok (.iload_n 3, 1) := dk_29 (dk_at dksX11_weighed_0 7 rfl rfl)
theorem dX11_weighed_8 : decode cX11_weighed 8 = .ok (.aload_n 0, 1) := dk_42 (dk_at dksX11_weighed_0 8 rfl rfl)
theorem dX11_weighed_9 : decode cX11_weighed 9 = .ok (.getfield 9, 3) := dk_180 0 9 (dk_at dksX11_weighed_0 9 rfl rfl)
theorem dX11_weighed_12 : decode cX11_weighed 12 = .ok (.if_icmp .ge 44, 3) := dk_162 0 44 (dk_at dksX11_weighed_0 12 rfl rfl)
theorem dX11_weighed_15 : decode cX11_weighed 15 = .ok (.iconst 0, 1) := dk_3 (dk_at dksX11_weighed_0 15 rfl rfl)
theorem dX11_weighed_16 : decode cX11_weighed 16 = .ok (.istore 4, 2) := dk_54 4 (dk_at dksX11_weighed_0 16 rfl rfl)
theorem dX11_weighed_18 : decode cX11_weighed 18 = .ok (.iload 4, 2) := dk_21 4 (dk_at dksX11_weighed_0 18 rfl rfl)
theorem dX11_weighed_20 : decode cX11_weighed 20 = .ok (.aload_n 0, 1) := dk_42 (dk_at dksX11_weighed_0 20 rfl rfl)
theorem dX11_weighed_21 : decode cX11_weighed 21 = .ok (.getfield 15, 3) := dk_180 0 15 (dk_at dksX11_weighed_0 21 rfl rfl)
theorem dX11_weighed_24 : decode cX11_weighed 24 = .ok (.if_icmp .ge 26, 3) := dk_162 0 26 (dk_at dksX11_weighed_1 0 rfl rfl)
theorem dX11_weighed_27 : decode cX11_weighed 27 = .ok (.aload_n 2, 1) := dk_44 (dk_at dksX11_weighed_1 3 rfl rfl)
theorem dX11_weighed_28 : decode cX11_weighed 28 = .ok (.getfield 20, 3) := dk_180 0 20 (dk_at dksX11_weighed_1 4 rfl rfl)
theorem dX11_weighed_31 : decode cX11_weighed 31 = .ok (.iload_n 3, 1) := dk_29 (dk_at dksX11_weighed_1 7 rfl rfl)
theorem dX11_weighed_32 : decode cX11_weighed 32 = .ok (.aaload, 1) := dk_50 (dk_at dksX11_weighed_1 8 rfl rfl)
theorem dX11_weighed_33 : decode cX11_weighed 33 = .ok (.iload 4, 2) := dk_21 4 (dk_at dksX11_weighed_1 9 rfl rfl)
theorem dX11_weighed_35 : decode cX11_weighed 35 = .ok (.dup2, 1) := dk_92 (dk_at dksX11_weighed_1 11 rfl rfl)
theorem dX11_weighed_36 : decode cX11_weighed 36 = .ok (.laload, 1) := dk_47 (dk_at dksX11_weighed_1 12 rfl rfl)
theorem dX11_weighed_37 : decode cX11_weighed 37 = .ok (.aload_n 1, 1) := dk_43 (dk_at dksX11_weighed_1 13 rfl rfl)
theorem dX11_weighed_38 : decode cX11_weighed 38 = .ok (.iload 4, 2) := dk_21 4 (dk_at dksX11_weighed_1 14 rfl rfl)
theorem dX11_weighed_40 : decode cX11_weighed 40 = .ok (.iaload, 1) := dk_46 (dk_at dksX11_weighed_1 16 rfl rfl)
theorem dX11_weighed_41 : decode cX11_weighed 41 = .ok (.i2l, 1) := dk_133 (dk_at dksX11_weighed_1 17 rfl rfl)
theorem dX11_weighed_42 : decode cX11_weighed 42 = .ok (.lmul, 1) := dk_105 (dk_at dksX11_weighed_1 18 rfl rfl)
theorem dX11_weighed_43 : decode cX11_weighed 43 = .ok (.lastore, 1) := dk_80 (dk_at dksX11_weighed_1 19 rfl rfl)
theorem dX11_weighed_44 : decode cX11_weighed 44 = .ok (.iinc 4 1, 3) := dk_132 4 1 (dk_at dksX11_weighed_1 20 rfl rfl)
theorem dX11_weighed_47 : decode cX11_weighed 47 = .ok (.goto (-29), 3) := dk_167 255 227 (dk_at dksX11_weighed_2 0 rfl rfl)
theorem dX11_weighed_50 : decode cX11_weighed 50 = .ok (.iinc 3 1, 3) := dk_132 3 1 (dk_at dksX11_weighed_2 3 rfl rfl)
theorem dX11_weighed_53 : decode cX11_weighed 53 = .ok (.goto (-46), 3) := dk_167 255 210 (dk_at dksX11_weighed_2 6 rfl rfl)
theorem dX11_weighed_56 : decode cX11_weighed 56 = .ok (.aload_n 2, 1) := dk_44 (dk_at dksX11_weighed_2 9 rfl rfl)
theorem dX11_weighed_57 : decode cX11_weighed 57 = .ok (.areturn, 1) := dk_176 (dk_at dksX11_weighed_2 10 rfl rfl)
abbrev cX11_like : ByteArray := prog_12_method_2_code
def yX11_like : MethodName := ⟨RX11, "like", "()LChainParts$Table;"⟩
def dkwX11_like_2 : List UInt8 := [167, 255, 227, 43, 176]
abbrev dktX11_like_2 : List UInt8 := dkwX11_like_2 ++ []
def dkwX11_like_1 : List UInt8 := [162, 0, 27, 43, 180, 0, 20, 28, 42, 180, 0, 20, 28, 50, 182, 0, 26, 192, 0, 27, 83, 132, 2, 1]
abbrev dktX11_like_1 : List UInt8 := dkwX11_like_1 ++ dktX11_like_2
def dkwX11_like_0 : List UInt8 := [187, 0, 10, 89, 42, 180, 0, 9, 42, 180, 0, 15, 183, 0, 23, 76, 3, 61, 28, 42, 180, 0, 9]
abbrev dktX11_like_0 : List UInt8 := dkwX11_like_0 ++ dktX11_like_1
theorem dksX11_like_0 : cX11_like.data.toList.drop 0 = dktX11_like_0 := by decide +kernel
theorem dksX11_like_1 : cX11_like.data.toList.drop 23 = dktX11_like_1 := dk_seg dksX11_like_0 23 rfl rfl
theorem dksX11_like_2 : cX11_like.data.toList.drop 47 = dktX11_like_2 := dk_seg dksX11_like_1 24 rfl rfl
theorem dX11_like_0 : decode cX11_like 0 = .ok (.new 10, 3) := dk_187 0 10 (dk_at dksX11_like_0 0 rfl rfl)
theorem dX11_like_3 : decode cX11_like 3 = .ok (.dup, 1) := dk_89 (dk_at dksX11_like_0 3 rfl rfl)
theorem dX11_like_4 : decode cX11_like 4 = .ok (.aload_n 0, 1) := dk_42 (dk_at dksX11_like_0 4 rfl rfl)
theorem dX11_like_5 : decode cX11_like 5 = .ok (.getfield 9, 3) := dk_180 0 9 (dk_at dksX11_like_0 5 rfl rfl)
theorem dX11_like_8 : decode cX11_like 8 = .ok (.aload_n 0, 1) := dk_42 (dk_at dksX11_like_0 8 rfl rfl)
theorem dX11_like_9 : decode cX11_like 9 = .ok (.getfield 15, 3) := dk_180 0 15 (dk_at dksX11_like_0 9 rfl rfl)
theorem dX11_like_12 : decode cX11_like 12 = .ok (.invokespecial 23, 3) := dk_183 0 23 (dk_at dksX11_like_0 12 rfl rfl)
theorem dX11_like_15 : decode cX11_like 15 = .ok (.astore_n 1, 1) := dk_76 (dk_at dksX11_like_0 15 rfl rfl)
theorem dX11_like_16 : decode cX11_like 16 = .ok (.iconst 0, 1) := dk_3 (dk_at dksX11_like_0 16 rfl rfl)
theorem dX11_like_17 : decode cX11_like 17 = .ok (.istore_n 2, 1) := dk_61 (dk_at dksX11_like_0 17 rfl rfl)
theorem dX11_like_18 : decode cX11_like 18 = .ok (.iload_n 2, 1) := dk_28 (dk_at dksX11_like_0 18 rfl rfl)
theorem dX11_like_19 : decode cX11_like 19 = .ok (.aload_n 0, 1) := dk_42 (dk_at dksX11_like_0 19 rfl rfl)
theorem dX11_like_20 : decode cX11_like 20 = .ok (.getfield 9, 3) := dk_180 0 9 (dk_at dksX11_like_0 20 rfl rfl)
theorem dX11_like_23 : decode cX11_like 23 = .ok (.if_icmp .ge 27, 3) := dk_162 0 27 (dk_at dksX11_like_1 0 rfl rfl)
theorem dX11_like_26 : decode cX11_like 26 = .ok (.aload_n 1, 1) := dk_43 (dk_at dksX11_like_1 3 rfl rfl)
theorem dX11_like_27 : decode cX11_like 27 = .ok (.getfield 20, 3) := dk_180 0 20 (dk_at dksX11_like_1 4 rfl rfl)
theorem dX11_like_30 : decode cX11_like 30 = .ok (.iload_n 2, 1) := dk_28 (dk_at dksX11_like_1 7 rfl rfl)
theorem dX11_like_31 : decode cX11_like 31 = .ok (.aload_n 0, 1) := dk_42 (dk_at dksX11_like_1 8 rfl rfl)
theorem dX11_like_32 : decode cX11_like 32 = .ok (.getfield 20, 3) := dk_180 0 20 (dk_at dksX11_like_1 9 rfl rfl)
theorem dX11_like_35 : decode cX11_like 35 = .ok (.iload_n 2, 1) := dk_28 (dk_at dksX11_like_1 12 rfl rfl)
theorem dX11_like_36 : decode cX11_like 36 = .ok (.aaload, 1) := dk_50 (dk_at dksX11_like_1 13 rfl rfl)
theorem dX11_like_37 : decode cX11_like 37 = .ok (.invokevirtual 26, 3) := dk_182 0 26 (dk_at dksX11_like_1 14 rfl rfl)
theorem dX11_like_40 : decode cX11_like 40 = .ok (.checkcast 27, 3) := dk_192 0 27 (dk_at dksX11_like_1 17 rfl rfl)
theorem dX11_like_43 : decode cX11_like 43 = .ok (.aastore, 1) := dk_83 (dk_at dksX11_like_1 20 rfl rfl)
theorem dX11_like_44 : decode cX11_like 44 = .ok (.iinc 2 1, 3) := dk_132 2 1 (dk_at dksX11_like_1 21 rfl rfl)
theorem dX11_like_47 : decode cX11_like 47 = .ok (.goto (-29), 3) := dk_167 255 227 (dk_at dksX11_like_2 0 rfl rfl)
theorem dX11_like_50 : decode cX11_like 50 = .ok (.aload_n 1, 1) := dk_43 (dk_at dksX11_like_2 3 rfl rfl)
theorem dX11_like_51 : decode cX11_like 51 = .ok (.areturn, 1) := dk_176 (dk_at dksX11_like_2 4 rfl rfl)
abbrev cX11_rank : ByteArray := prog_12_method_18_code
def yX11_rank : MethodName := ⟨RX11, "rank", "()I"⟩
def dkwX11_rank_0 : List UInt8 := [42, 42, 180, 0, 9, 188, 11, 182, 0, 86, 182, 0, 90, 172]
abbrev dktX11_rank_0 : List UInt8 := dkwX11_rank_0 ++ []
theorem dksX11_rank_0 : cX11_rank.data.toList.drop 0 = dktX11_rank_0 := by decide +kernel
theorem dX11_rank_0 : decode cX11_rank 0 = .ok (.aload_n 0, 1) := dk_42 (dk_at dksX11_rank_0 0 rfl rfl)
theorem dX11_rank_1 : decode cX11_rank 1 = .ok (.aload_n 0, 1) := dk_42 (dk_at dksX11_rank_0 1 rfl rfl)
theorem dX11_rank_2 : decode cX11_rank 2 = .ok (.getfield 9, 3) := dk_180 0 9 (dk_at dksX11_rank_0 2 rfl rfl)
theorem dX11_rank_5 : decode cX11_rank 5 = .ok (.newarray .long, 2) := dk_188_11 (dk_at dksX11_rank_0 5 rfl rfl)
theorem dX11_rank_7 : decode cX11_rank 7 = .ok (.invokevirtual 86, 3) := dk_182 0 86 (dk_at dksX11_rank_0 7 rfl rfl)
theorem dX11_rank_10 : decode cX11_rank 10 = .ok (.invokevirtual 90, 3) := dk_182 0 90 (dk_at dksX11_rank_0 10 rfl rfl)
theorem dX11_rank_13 : decode cX11_rank 13 = .ok (.ireturn, 1) := dk_172 (dk_at dksX11_rank_0 13 rfl rfl)
abbrev cX11_and : ByteArray := prog_12_method_17_code
def yX11_and : MethodName := ⟨RX11, "and", "([J)LChainParts$Table;"⟩
def dkwX11_and_3 : List UInt8 := [176]
abbrev dktX11_and_3 : List UInt8 := dkwX11_and_3 ++ []
def dkwX11_and_2 : List UInt8 := [184, 0, 80, 44, 180, 0, 20, 29, 50, 42, 180, 0, 15, 43, 29, 47, 80, 132, 3, 1, 167, 255, 210, 44]
abbrev dktX11_and_2 : List UInt8 := dkwX11_and_2 ++ dktX11_and_3
def dkwX11_and_1 : List UInt8 := [180, 0, 9, 162, 0, 44, 42, 180, 0, 20, 29, 50, 3, 44, 180, 0, 20, 29, 50, 3, 42, 180, 0, 15]
abbrev dktX11_and_1 : List UInt8 := dkwX11_and_1 ++ dktX11_and_2
def dkwX11_and_0 : List UInt8 := [187, 0, 10, 89, 42, 180, 0, 9, 42, 180, 0, 15, 4, 96, 183, 0, 23, 77, 3, 62, 29, 42]
abbrev dktX11_and_0 : List UInt8 := dkwX11_and_0 ++ dktX11_and_1
theorem dksX11_and_0 : cX11_and.data.toList.drop 0 = dktX11_and_0 := by decide +kernel
theorem dksX11_and_1 : cX11_and.data.toList.drop 22 = dktX11_and_1 := dk_seg dksX11_and_0 22 rfl rfl
theorem dksX11_and_2 : cX11_and.data.toList.drop 46 = dktX11_and_2 := dk_seg dksX11_and_1 24 rfl rfl
theorem dksX11_and_3 : cX11_and.data.toList.drop 70 = dktX11_and_3 := dk_seg dksX11_and_2 24 rfl rfl
theorem dX11_and_0 : decode cX11_and 0 = .ok (.new 10, 3) := dk_187 0 10 (dk_at dksX11_and_0 0 rfl rfl)
theorem dX11_and_3 : decode cX11_and 3 = .ok (.dup, 1) := dk_89 (dk_at dksX11_and_0 3 rfl rfl)
theorem dX11_and_4 : decode cX11_and 4 = .ok (.aload_n 0, 1) := dk_42 (dk_at dksX11_and_0 4 rfl rfl)
theorem dX11_and_5 : decode cX11_and 5 = .ok (.getfield 9, 3) := dk_180 0 9 (dk_at dksX11_and_0 5 rfl rfl)
theorem dX11_and_8 : decode cX11_and 8 = .ok (.aload_n 0, 1) := dk_42 (dk_at dksX11_and_0 8 rfl rfl)
theorem dX11_and_9 : decode cX11_and 9 = .ok (.getfield 15, 3) := dk_180 0 15 (dk_at dksX11_and_0 9 rfl rfl)
theorem dX11_and_12 : decode cX11_and 12 = .ok (.iconst 1, 1) := dk_4 (dk_at dksX11_and_0 12 rfl rfl)
theorem dX11_and_13 : decode cX11_and 13 = .ok (.iadd, 1) := dk_96 (dk_at dksX11_and_0 13 rfl rfl)
theorem dX11_and_14 : decode cX11_and 14 = .ok (.invokespecial 23, 3) := dk_183 0 23 (dk_at dksX11_and_0 14 rfl rfl)
theorem dX11_and_17 : decode cX11_and 17 = .ok (.astore_n 2, 1) := dk_77 (dk_at dksX11_and_0 17 rfl rfl)
theorem dX11_and_18 : decode cX11_and 18 = .ok (.iconst 0, 1) := dk_3 (dk_at dksX11_and_0 18 rfl rfl)
theorem dX11_and_19 : decode cX11_and 19 = .ok (.istore_n 3, 1) := dk_62 (dk_at dksX11_and_0 19 rfl rfl)
theorem dX11_and_20 : decode cX11_and 20 = .ok (.iload_n 3, 1) := dk_29 (dk_at dksX11_and_0 20 rfl rfl)
theorem dX11_and_21 : decode cX11_and 21 = .ok (.aload_n 0, 1) := dk_42 (dk_at dksX11_and_0 21 rfl rfl)
theorem dX11_and_22 : decode cX11_and 22 = .ok (.getfield 9, 3) := dk_180 0 9 (dk_at dksX11_and_1 0 rfl rfl)
theorem dX11_and_25 : decode cX11_and 25 = .ok (.if_icmp .ge 44, 3) := dk_162 0 44 (dk_at dksX11_and_1 3 rfl rfl)
theorem dX11_and_28 : decode cX11_and 28 = .ok (.aload_n 0, 1) := dk_42 (dk_at dksX11_and_1 6 rfl rfl)
theorem dX11_and_29 : decode cX11_and 29 = .ok (.getfield 20, 3) := dk_180 0 20 (dk_at dksX11_and_1 7 rfl rfl)
theorem dX11_and_32 : decode cX11_and 32 = .ok (.iload_n 3, 1) := dk_29 (dk_at dksX11_and_1 10 rfl rfl)
theorem dX11_and_33 : decode cX11_and 33 = .ok (.aaload, 1) := dk_50 (dk_at dksX11_and_1 11 rfl rfl)
theorem dX11_and_34 : decode cX11_and 34 = .ok (.iconst 0, 1) := dk_3 (dk_at dksX11_and_1 12 rfl rfl)
theorem dX11_and_35 : decode cX11_and 35 = .ok (.aload_n 2, 1) := dk_44 (dk_at dksX11_and_1 13 rfl rfl)
theorem dX11_and_36 : decode cX11_and 36 = .ok (.getfield 20, 3) := dk_180 0 20 (dk_at dksX11_and_1 14 rfl rfl)
theorem dX11_and_39 : decode cX11_and 39 = .ok (.iload_n 3, 1) := dk_29 (dk_at dksX11_and_1 17 rfl rfl)
theorem dX11_and_40 : decode cX11_and 40 = .ok (.aaload, 1) := dk_50 (dk_at dksX11_and_1 18 rfl rfl)
theorem dX11_and_41 : decode cX11_and 41 = .ok (.iconst 0, 1) := dk_3 (dk_at dksX11_and_1 19 rfl rfl)
theorem dX11_and_42 : decode cX11_and 42 = .ok (.aload_n 0, 1) := dk_42 (dk_at dksX11_and_1 20 rfl rfl)
theorem dX11_and_43 : decode cX11_and 43 = .ok (.getfield 15, 3) := dk_180 0 15 (dk_at dksX11_and_1 21 rfl rfl)
theorem dX11_and_46 : decode cX11_and 46 = .ok (.invokestatic 80, 3) := dk_184 0 80 (dk_at dksX11_and_2 0 rfl rfl)
theorem dX11_and_49 : decode cX11_and 49 = .ok (.aload_n 2, 1) := dk_44 (dk_at dksX11_and_2 3 rfl rfl)
theorem dX11_and_50 : decode cX11_and 50 = .ok (.getfield 20, 3) := dk_180 0 20 (dk_at dksX11_and_2 4 rfl rfl)
theorem dX11_and_53 : decode cX11_and 53 = .ok (.iload_n 3, 1) := dk_29 (dk_at dksX11_and_2 7 rfl rfl)
theorem dX11_and_54 : decode cX11_and 54 = .ok (.aaload, 1) := dk_50 (dk_at dksX11_and_2 8 rfl rfl)
theorem dX11_and_55 : decode cX11_and 55 = .ok (.aload_n 0, 1) := dk_42 (dk_at dksX11_and_2 9 rfl rfl)
theorem dX11_and_56 : decode cX11_and 56 = .ok (.getfield 15, 3) := dk_180 0 15 (dk_at dksX11_and_2 10 rfl rfl)
theorem dX11_and_59 : decode cX11_and 59 = .ok (.aload_n 1, 1) := dk_43 (dk_at dksX11_and_2 13 rfl rfl)
theorem dX11_and_60 : decode cX11_and 60 = .ok (.iload_n 3, 1) := dk_29 (dk_at dksX11_and_2 14 rfl rfl)
theorem dX11_and_61 : decode cX11_and 61 = .ok (.laload, 1) := dk_47 (dk_at dksX11_and_2 15 rfl rfl)
theorem dX11_and_62 : decode cX11_and 62 = .ok (.lastore, 1) := dk_80 (dk_at dksX11_and_2 16 rfl rfl)
theorem dX11_and_63 : decode cX11_and 63 = .ok (.iinc 3 1, 3) := dk_132 3 1 (dk_at dksX11_and_2 17 rfl rfl)
theorem dX11_and_66 : decode cX11_and 66 = .ok (.goto (-46), 3) := dk_167 255 210 (dk_at dksX11_and_2 20 rfl rfl)
theorem dX11_and_69 : decode cX11_and 69 = .ok (.aload_n 2, 1) := dk_44 (dk_at dksX11_and_2 23 rfl rfl)
theorem dX11_and_70 : decode cX11_and 70 = .ok (.areturn, 1) := dk_176 (dk_at dksX11_and_3 0 rfl rfl)
abbrev cX11_diagonal : ByteArray := prog_12_method_15_code
def yX11_diagonal : MethodName := ⟨RX11, "diagonal", "()I"⟩
def dkwX11_diagonal_2 : List UInt8 := [167, 255, 213]
abbrev dktX11_diagonal_2 : List UInt8 := dkwX11_diagonal_2 ++ []
def dkwX11_diagonal_1 : List UInt8 := [182, 0, 53, 42, 27, 28, 16, 100, 112, 182, 0, 73, 42, 27, 182, 0, 76, 153, 0, 6, 132, 1, 1]
abbrev dktX11_diagonal_1 : List UInt8 := dkwX11_diagonal_1 ++ dktX11_diagonal_2
def dkwX11_diagonal_0 : List UInt8 := [3, 60, 42, 27, 182, 0, 70, 61, 28, 18, 63, 160, 0, 5, 27, 172, 42, 27, 28, 16, 100, 108]
abbrev dktX11_diagonal_0 : List UInt8 := dkwX11_diagonal_0 ++ dktX11_diagonal_1
theorem dksX11_diagonal_0 : cX11_diagonal.data.toList.drop 0 = dktX11_diagonal_0 := by decide +kernel
theorem dksX11_diagonal_1 : cX11_diagonal.data.toList.drop 22 = dktX11_diagonal_1 := dk_seg dksX11_diagonal_0 22 rfl rfl
theorem dksX11_diagonal_2 : cX11_diagonal.data.toList.drop 45 = dktX11_diagonal_2 := dk_seg dksX11_diagonal_1 23 rfl rfl
theorem dX11_diagonal_0 : decode cX11_diagonal 0 = .ok (.iconst 0, 1) := dk_3 (dk_at dksX11_diagonal_0 0 rfl rfl)
theorem dX11_diagonal_1 : decode cX11_diagonal 1 = .ok (.istore_n 1, 1) := dk_60 (dk_at dksX11_diagonal_0 1 rfl rfl)
theorem dX11_diagonal_2 : decode cX11_diagonal 2 = .ok (.aload_n 0, 1) := dk_42 (dk_at dksX11_diagonal_0 2 rfl rfl)
theorem dX11_diagonal_3 : decode cX11_diagonal 3 = .ok (.iload_n 1, 1) := dk_27 (dk_at dksX11_diagonal_0 3 rfl rfl)
theorem dX11_diagonal_4 : decode cX11_diagonal 4 = .ok (.invokevirtual 70, 3) := dk_182 0 70 (dk_at dksX11_diagonal_0 4 rfl rfl)
theorem dX11_diagonal_7 : decode cX11_diagonal 7 = .ok (.istore_n 2, 1) := dk_61 (dk_at dksX11_diagonal_0 7 rfl rfl)
theorem dX11_diagonal_8 : decode cX11_diagonal 8 = .ok (.iload_n 2, 1) := dk_28 (dk_at dksX11_diagonal_0 8 rfl rfl)
theorem dX11_diagonal_9 : decode cX11_diagonal 9 = .ok (.ldc 63, 2) := dk_18 63 (dk_at dksX11_diagonal_0 9 rfl rfl)
theorem dX11_diagonal_11 : decode cX11_diagonal 11 = .ok (.if_icmp .ne 5, 3) := dk_160 0 5 (dk_at dksX11_diagonal_0 11 rfl rfl)
theorem dX11_diagonal_14 : decode cX11_diagonal 14 = .ok (.iload_n 1, 1) := dk_27 (dk_at dksX11_diagonal_0 14 rfl rfl)
theorem dX11_diagonal_15 : decode cX11_diagonal 15 = .ok (.ireturn, 1) := dk_172 (dk_at dksX11_diagonal_0 15 rfl rfl)
theorem dX11_diagonal_16 : decode cX11_diagonal 16 = .ok (.aload_n 0, 1) := dk_42 (dk_at dksX11_diagonal_0 16 rfl rfl)
theorem dX11_diagonal_17 : decode cX11_diagonal 17 = .ok (.iload_n 1, 1) := dk_27 (dk_at dksX11_diagonal_0 17 rfl rfl)
theorem dX11_diagonal_18 : decode cX11_diagonal 18 = .ok (.iload_n 2, 1) := dk_28 (dk_at dksX11_diagonal_0 18 rfl rfl)
theorem dX11_diagonal_19 : decode cX11_diagonal 19 = .ok (.bipush 100, 2) := dk_16 100 (dk_at dksX11_diagonal_0 19 rfl rfl)
theorem dX11_diagonal_21 : decode cX11_diagonal 21 = .ok (.idiv, 1) := dk_108 (dk_at dksX11_diagonal_0 21 rfl rfl)
theorem dX11_diagonal_22 : decode cX11_diagonal 22 = .ok (.invokevirtual 53, 3) := dk_182 0 53 (dk_at dksX11_diagonal_1 0 rfl rfl)
theorem dX11_diagonal_25 : decode cX11_diagonal 25 = .ok (.aload_n 0, 1) := dk_42 (dk_at dksX11_diagonal_1 3 rfl rfl)
theorem dX11_diagonal_26 : decode cX11_diagonal 26 = .ok (.iload_n 1, 1) := dk_27 (dk_at dksX11_diagonal_1 4 rfl rfl)
theorem dX11_diagonal_27 : decode cX11_diagonal 27 = .ok (.iload_n 2, 1) := dk_28 (dk_at dksX11_diagonal_1 5 rfl rfl)
theorem dX11_diagonal_28 : decode cX11_diagonal 28 = .ok (.bipush 100, 2) := dk_16 100 (dk_at dksX11_diagonal_1 6 rfl rfl)
theorem dX11_diagonal_30 : decode cX11_diagonal 30 = .ok (.irem, 1) := dk_112 (dk_at dksX11_diagonal_1 8 rfl rfl)
theorem dX11_diagonal_31 : decode cX11_diagonal 31 = .ok (.invokevirtual 73, 3) := dk_182 0 73 (dk_at dksX11_diagonal_1 9 rfl rfl)
theorem dX11_diagonal_34 : decode cX11_diagonal 34 = .ok (.aload_n 0, 1) := dk_42 (dk_at dksX11_diagonal_1 12 rfl rfl)
theorem dX11_diagonal_35 : decode cX11_diagonal 35 = .ok (.iload_n 1, 1) := dk_27 (dk_at dksX11_diagonal_1 13 rfl rfl)
theorem dX11_diagonal_36 : decode cX11_diagonal 36 = .ok (.invokevirtual 76, 3) := dk_182 0 76 (dk_at dksX11_diagonal_1 14 rfl rfl)
theorem dX11_diagonal_39 : decode cX11_diagonal 39 = .ok (.ifCond .eq 6, 3) := dk_153 0 6 (dk_at dksX11_diagonal_1 17 rfl rfl)
theorem dX11_diagonal_42 : decode cX11_diagonal 42 = .ok (.iinc 1 1, 3) := dk_132 1 1 (dk_at dksX11_diagonal_1 20 rfl rfl)
theorem dX11_diagonal_45 : decode cX11_diagonal 45 = .ok (.goto (-43), 3) := dk_167 255 213 (dk_at dksX11_diagonal_2 0 rfl rfl)
abbrev cX11_least : ByteArray := prog_12_method_14_code
def yX11_least : MethodName := ⟨RX11, "least", "(I)I"⟩
def dkwX11_least_4 : List UInt8 := [28, 172]
abbrev dktX11_least_4 : List UInt8 := dkwX11_least_4 ++ []
def dkwX11_least_3 : List UInt8 := [22, 7, 66, 16, 100, 21, 5, 104, 21, 6, 96, 61, 132, 6, 1, 167, 255, 192, 132, 5, 1, 167, 255, 174]
abbrev dktX11_least_3 : List UInt8 := dkwX11_least_3 ++ dktX11_least_4
def dkwX11_least_2 : List UInt8 := [22, 7, 9, 148, 153, 0, 31, 28, 18, 63, 159, 0, 13, 22, 7, 33, 148, 155, 0, 6, 167, 0, 15]
abbrev dktX11_least_2 : List UInt8 := dkwX11_least_2 ++ dktX11_least_3
def dkwX11_least_1 : List UInt8 := [180, 0, 15, 4, 100, 162, 0, 59, 42, 180, 0, 20, 21, 5, 50, 21, 6, 47, 184, 0, 64, 55, 7]
abbrev dktX11_least_1 : List UInt8 := dkwX11_least_1 ++ dktX11_least_2
def dkwX11_least_0 : List UInt8 := [18, 63, 61, 9, 66, 27, 54, 5, 21, 5, 42, 180, 0, 9, 162, 0, 79, 27, 54, 6, 21, 6, 42]
abbrev dktX11_least_0 : List UInt8 := dkwX11_least_0 ++ dktX11_least_1
theorem dksX11_least_0 : cX11_least.data.toList.drop 0 = dktX11_least_0 := by decide +kernel
theorem dksX11_least_1 : cX11_least.data.toList.drop 23 = dktX11_least_1 := dk_seg dksX11_least_0 23 rfl rfl
theorem dksX11_least_2 : cX11_least.data.toList.drop 46 = dktX11_least_2 := dk_seg dksX11_least_1 23 rfl rfl
theorem dksX11_least_3 : cX11_least.data.toList.drop 69 = dktX11_least_3 := dk_seg dksX11_least_2 23 rfl rfl
theorem dksX11_least_4 : cX11_least.data.toList.drop 93 = dktX11_least_4 := dk_seg dksX11_least_3 24 rfl rfl
theorem dX11_least_0 : decode cX11_least 0 = .ok (.ldc 63, 2) := dk_18 63 (dk_at dksX11_least_0 0 rfl rfl)
theorem dX11_least_2 : decode cX11_least 2 = .ok (.istore_n 2, 1) := dk_61 (dk_at dksX11_least_0 2 rfl rfl)
theorem dX11_least_3 : decode cX11_least 3 = .ok (.lconst 0, 1) := dk_9 (dk_at dksX11_least_0 3 rfl rfl)
theorem dX11_least_4 : decode cX11_least 4 = .ok (.lstore_n 3, 1) := dk_66 (dk_at dksX11_least_0 4 rfl rfl)
theorem dX11_least_5 : decode cX11_least 5 = .ok (.iload_n 1, 1) := dk_27 (dk_at dksX11_least_0 5 rfl rfl)
theorem dX11_least_6 : decode cX11_least 6 = .ok (.istore 5, 2) := dk_54 5 (dk_at dksX11_least_0 6 rfl rfl)
theorem dX11_least_8 : decode cX11_least 8 = .ok (.iload 5, 2) := dk_21 5 (dk_at dksX11_least_0 8 rfl rfl)
theorem dX11_least_10 : decode cX11_least 10 = .ok (.aload_n 0, 1) := dk_42 (dk_at dksX11_least_0 10 rfl rfl)
theorem dX11_least_11 : decode cX11_least 11 = .ok (.getfield 9, 3) := dk_180 0 9 (dk_at dksX11_least_0 11 rfl rfl)
theorem dX11_least_14 : decode cX11_least 14 = .ok (.if_icmp .ge 79, 3) := dk_162 0 79 (dk_at dksX11_least_0 14 rfl rfl)
theorem dX11_least_17 : decode cX11_least 17 = .ok (.iload_n 1, 1) := dk_27 (dk_at dksX11_least_0 17 rfl rfl)
theorem dX11_least_18 : decode cX11_least 18 = .ok (.istore 6, 2) := dk_54 6 (dk_at dksX11_least_0 18 rfl rfl)
theorem dX11_least_20 : decode cX11_least 20 = .ok (.iload 6, 2) := dk_21 6 (dk_at dksX11_least_0 20 rfl rfl)
theorem dX11_least_22 : decode cX11_least 22 = .ok (.aload_n 0, 1) := dk_42 (dk_at dksX11_least_0 22 rfl rfl)
theorem dX11_least_23 : decode cX11_least 23 = .ok (.getfield 15, 3) := dk_180 0 15 (dk_at dksX11_least_1 0 rfl rfl)
theorem dX11_least_26 : decode cX11_least 26 = .ok (.iconst 1, 1) := dk_4 (dk_at dksX11_least_1 3 rfl rfl)
theorem dX11_least_27 : decode cX11_least 27 = .ok (.isub, 1) := dk_100 (dk_at dksX11_least_1 4 rfl rfl)
theorem dX11_least_28 : decode cX11_least 28 = .ok (.if_icmp .ge 59, 3) := dk_162 0 59 (dk_at dksX11_least_1 5 rfl rfl)
theorem dX11_least_31 : decode cX11_least 31 = .ok (.aload_n 0, 1) := dk_42 (dk_at dksX11_least_1 8 rfl rfl)
theorem dX11_least_32 : decode cX11_least 32 = .ok (.getfield 20, 3) := dk_180 0 20 (dk_at dksX11_least_1 9 rfl rfl)
theorem dX11_least_35 : decode cX11_least 35 = .ok (.iload 5, 2) := dk_21 5 (dk_at dksX11_least_1 12 rfl rfl)
theorem dX11_least_37 : decode cX11_least 37 = .ok (.aaload, 1) := dk_50 (dk_at dksX11_least_1 14 rfl rfl)
theorem dX11_least_38 : decode cX11_least 38 = .ok (.iload 6, 2) := dk_21 6 (dk_at dksX11_least_1 15 rfl rfl)
theorem dX11_least_40 : decode cX11_least 40 = .ok (.laload, 1) := dk_47 (dk_at dksX11_least_1 17 rfl rfl)
theorem dX11_least_41 : decode cX11_least 41 = .ok (.invokestatic 64, 3) := dk_184 0 64 (dk_at dksX11_least_1 18 rfl rfl)
theorem dX11_least_44 : decode cX11_least 44 = .ok (.lstore 7, 2) := dk_55 7 (dk_at dksX11_least_1 21 rfl rfl)
theorem dX11_least_46 : decode cX11_least 46 = .ok (.lload 7, 2) := dk_22 7 (dk_at dksX11_least_2 0 rfl rfl)
theorem dX11_least_48 : decode cX11_least 48 = .ok (.lconst 0, 1) := dk_9 (dk_at dksX11_least_2 2 rfl rfl)
theorem dX11_least_49 : decode cX11_least 49 = .ok (.lcmp, 1) := dk_148 (dk_at dksX11_least_2 3 rfl rfl)
theorem dX11_least_50 : decode cX11_least 50 = .ok (.ifCond .eq 31, 3) := dk_153 0 31 (dk_at dksX11_least_2 4 rfl rfl)
theorem dX11_least_53 : decode cX11_least 53 = .ok (.iload_n 2, 1) := dk_28 (dk_at dksX11_least_2 7 rfl rfl)
theorem dX11_least_54 : decode cX11_least 54 = .ok (.ldc 63, 2) := dk_18 63 (dk_at dksX11_least_2 8 rfl rfl)
theorem dX11_least_56 : decode cX11_least 56 = .ok (.if_icmp .eq 13, 3) := dk_159 0 13 (dk_at dksX11_least_2 10 rfl rfl)
theorem dX11_least_59 : decode cX11_least 59 = .ok (.lload 7, 2) := dk_22 7 (dk_at dksX11_least_2 13 rfl rfl)
theorem dX11_least_61 : decode cX11_least 61 = .ok (.lload_n 3, 1) := dk_33 (dk_at dksX11_least_2 15 rfl rfl)
theorem dX11_least_62 : decode cX11_least 62 = .ok (.lcmp, 1) := dk_148 (dk_at dksX11_least_2 16 rfl rfl)
theorem dX11_least_63 : decode cX11_least 63 = .ok (.ifCond .lt 6, 3) := dk_155 0 6 (dk_at dksX11_least_2 17 rfl rfl)
theorem dX11_least_66 : decode cX11_least 66 = .ok (.goto 15, 3) := dk_167 0 15 (dk_at dksX11_least_2 20 rfl rfl)
theorem dX11_least_69 : decode cX11_least 69 = .ok (.lload 7, 2) := dk_22 7 (dk_at dksX11_least_3 0 rfl rfl)
theorem dX11_least_71 : decode cX11_least 71 = .ok (.lstore_n 3, 1) := dk_66 (dk_at dksX11_least_3 2 rfl rfl)
theorem dX11_least_72 : decode cX11_least 72 = .ok (.bipush 100, 2) := dk_16 100 (dk_at dksX11_least_3 3 rfl rfl)
theorem dX11_least_74 : decode cX11_least 74 = .ok (.iload 5, 2) := dk_21 5 (dk_at dksX11_least_3 5 rfl rfl)
theorem dX11_least_76 : decode cX11_least 76 = .ok (.imul, 1) := dk_104 (dk_at dksX11_least_3 7 rfl rfl)
theorem dX11_least_77 : decode cX11_least 77 = .ok (.iload 6, 2) := dk_21 6 (dk_at dksX11_least_3 8 rfl rfl)
theorem dX11_least_79 : decode cX11_least 79 = .ok (.iadd, 1) := dk_96 (dk_at dksX11_least_3 10 rfl rfl)
theorem dX11_least_80 : decode cX11_least 80 = .ok (.istore_n 2, 1) := dk_61 (dk_at dksX11_least_3 11 rfl rfl)
theorem dX11_least_81 : decode cX11_least 81 = .ok (.iinc 6 1, 3) := dk_132 6 1 (dk_at dksX11_least_3 12 rfl rfl)
theorem dX11_least_84 : decode cX11_least 84 = .ok (.goto (-64), 3) := dk_167 255 192 (dk_at dksX11_least_3 15 rfl rfl)
theorem dX11_least_87 : decode cX11_least 87 = .ok (.iinc 5 1, 3) := dk_132 5 1 (dk_at dksX11_least_3 18 rfl rfl)
theorem dX11_least_90 : decode cX11_least 90 = .ok (.goto (-82), 3) := dk_167 255 174 (dk_at dksX11_least_3 21 rfl rfl)
theorem dX11_least_93 : decode cX11_least 93 = .ok (.iload_n 2, 1) := dk_28 (dk_at dksX11_least_4 0 rfl rfl)
theorem dX11_least_94 : decode cX11_least 94 = .ok (.ireturn, 1) := dk_172 (dk_at dksX11_least_4 1 rfl rfl)
abbrev cX11_swapRows : ByteArray := prog_12_method_8_code
def yX11_swapRows : MethodName := ⟨RX11, "swapRows", "(II)V"⟩
def dkwX11_swapRows_1 : List UInt8 := [45, 83, 177]
abbrev dktX11_swapRows_1 : List UInt8 := dkwX11_swapRows_1 ++ []
def dkwX11_swapRows_0 : List UInt8 := [42, 180, 0, 20, 27, 50, 78, 42, 180, 0, 20, 27, 42, 180, 0, 20, 28, 50, 83, 42, 180, 0, 20, 28]
abbrev dktX11_swapRows_0 : List UInt8 := dkwX11_swapRows_0 ++ dktX11_swapRows_1
theorem dksX11_swapRows_0 : cX11_swapRows.data.toList.drop 0 = dktX11_swapRows_0 := by decide +kernel
theorem dksX11_swapRows_1 : cX11_swapRows.data.toList.drop 24 = dktX11_swapRows_1 := dk_seg dksX11_swapRows_0 24 rfl rfl
theorem dX11_swapRows_0 : decode cX11_swapRows 0 = .ok (.aload_n 0, 1) := dk_42 (dk_at dksX11_swapRows_0 0 rfl rfl)
theorem dX11_swapRows_1 : decode cX11_swapRows 1 = .ok (.getfield 20, 3) := dk_180 0 20 (dk_at dksX11_swapRows_0 1 rfl rfl)
theorem dX11_swapRows_4 : decode cX11_swapRows 4 = .ok (.iload_n 1, 1) := dk_27 (dk_at dksX11_swapRows_0 4 rfl rfl)
theorem dX11_swapRows_5 : decode cX11_swapRows 5 = .ok (.aaload, 1) := dk_50 (dk_at dksX11_swapRows_0 5 rfl rfl)
theorem dX11_swapRows_6 : decode cX11_swapRows 6 = .ok (.astore_n 3, 1) := dk_78 (dk_at dksX11_swapRows_0 6 rfl rfl)
theorem dX11_swapRows_7 : decode cX11_swapRows 7 = .ok (.aload_n 0, 1) := dk_42 (dk_at dksX11_swapRows_0 7 rfl rfl)
theorem dX11_swapRows_8 : decode cX11_swapRows 8 = .ok (.getfield 20, 3) := dk_180 0 20 (dk_at dksX11_swapRows_0 8 rfl rfl)
theorem dX11_swapRows_11 : decode cX11_swapRows 11 = .ok (.iload_n 1, 1) := dk_27 (dk_at dksX11_swapRows_0 11 rfl rfl)
theorem dX11_swapRows_12 : decode cX11_swapRows 12 = .ok (.aload_n 0, 1) := dk_42 (dk_at dksX11_swapRows_0 12 rfl rfl)
theorem dX11_swapRows_13 : decode cX11_swapRows 13 = .ok (.getfield 20, 3) := dk_180 0 20 (dk_at dksX11_swapRows_0 13 rfl rfl)
theorem dX11_swapRows_16 : decode cX11_swapRows 16 = .ok (.iload_n 2, 1) := dk_28 (dk_at dksX11_swapRows_0 16 rfl rfl)
theorem dX11_swapRows_17 : decode cX11_swapRows 17 = .ok (.aaload, 1) := dk_50 (dk_at dksX11_swapRows_0 17 rfl rfl)
theorem dX11_swapRows_18 : decode cX11_swapRows 18 = .ok (.aastore, 1) := dk_83 (dk_at dksX11_swapRows_0 18 rfl rfl)
theorem dX11_swapRows_19 : decode cX11_swapRows 19 = .ok (.aload_n 0, 1) := dk_42 (dk_at dksX11_swapRows_0 19 rfl rfl)
theorem dX11_swapRows_20 : decode cX11_swapRows 20 = .ok (.getfield 20, 3) := dk_180 0 20 (dk_at dksX11_swapRows_0 20 rfl rfl)
theorem dX11_swapRows_23 : decode cX11_swapRows 23 = .ok (.iload_n 2, 1) := dk_28 (dk_at dksX11_swapRows_0 23 rfl rfl)
theorem dX11_swapRows_24 : decode cX11_swapRows 24 = .ok (.aload_n 3, 1) := dk_45 (dk_at dksX11_swapRows_1 0 rfl rfl)
theorem dX11_swapRows_25 : decode cX11_swapRows 25 = .ok (.aastore, 1) := dk_83 (dk_at dksX11_swapRows_1 1 rfl rfl)
theorem dX11_swapRows_26 : decode cX11_swapRows 26 = .ok (.return_, 1) := dk_177 (dk_at dksX11_swapRows_1 2 rfl rfl)
abbrev cX11_swapColumns : ByteArray := prog_12_method_9_code
def yX11_swapColumns : MethodName := ⟨RX11, "swapColumns", "(II)V"⟩
def dkwX11_swapColumns_2 : List UInt8 := [132, 5, 1, 167, 255, 220, 177]
abbrev dktX11_swapColumns_2 : List UInt8 := dkwX11_swapColumns_2 ++ []
def dkwX11_swapColumns_1 : List UInt8 := [58, 6, 25, 6, 27, 47, 55, 7, 25, 6, 27, 25, 6, 28, 47, 80, 25, 6, 28, 22, 7, 80]
abbrev dktX11_swapColumns_1 : List UInt8 := dkwX11_swapColumns_1 ++ dktX11_swapColumns_2
def dkwX11_swapColumns_0 : List UInt8 := [42, 180, 0, 20, 78, 45, 190, 54, 4, 3, 54, 5, 21, 5, 21, 4, 162, 0, 35, 45, 21, 5, 50]
abbrev dktX11_swapColumns_0 : List UInt8 := dkwX11_swapColumns_0 ++ dktX11_swapColumns_1
theorem dksX11_swapColumns_0 : cX11_swapColumns.data.toList.drop 0 = dktX11_swapColumns_0 := by decide +kernel
theorem dksX11_swapColumns_1 : cX11_swapColumns.data.toList.drop 23 = dktX11_swapColumns_1 := dk_seg dksX11_swapColumns_0 23 rfl rfl
theorem dksX11_swapColumns_2 : cX11_swapColumns.data.toList.drop 45 = dktX11_swapColumns_2 := dk_seg dksX11_swapColumns_1 22 rfl rfl
theorem dX11_swapColumns_0 : decode cX11_swapColumns 0 = .ok (.aload_n 0, 1) := dk_42 (dk_at dksX11_swapColumns_0 0 rfl rfl)
theorem dX11_swapColumns_1 : decode cX11_swapColumns 1 = .ok (.getfield 20, 3) := dk_180 0 20 (dk_at dksX11_swapColumns_0 1 rfl rfl)
theorem dX11_swapColumns_4 : decode cX11_swapColumns 4 = .ok (.astore_n 3, 1) := dk_78 (dk_at dksX11_swapColumns_0 4 rfl rfl)
theorem dX11_swapColumns_5 : decode cX11_swapColumns 5 = .ok (.aload_n 3, 1) := dk_45 (dk_at dksX11_swapColumns_0 5 rfl rfl)
theorem dX11_swapColumns_6 : decode cX11_swapColumns 6 = .ok (.arraylength, 1) := dk_190 (dk_at dksX11_swapColumns_0 6 rfl rfl)
theorem dX11_swapColumns_7 : decode cX11_swapColumns 7 = .ok (.istore 4, 2) := dk_54 4 (dk_at dksX11_swapColumns_0 7 rfl rfl)
theorem dX11_swapColumns_9 : decode cX11_swapColumns 9 = .ok (.iconst 0, 1) := dk_3 (dk_at dksX11_swapColumns_0 9 rfl rfl)
theorem dX11_swapColumns_10 : decode cX11_swapColumns 10 = .ok (.istore 5, 2) := dk_54 5 (dk_at dksX11_swapColumns_0 10 rfl rfl)
theorem dX11_swapColumns_12 : decode cX11_swapColumns 12 = .ok (.iload 5, 2) := dk_21 5 (dk_at dksX11_swapColumns_0 12 rfl rfl)
theorem dX11_swapColumns_14 : decode cX11_swapColumns 14 = .ok (.iload 4, 2) := dk_21 4 (dk_at dksX11_swapColumns_0 14 rfl rfl)
theorem dX11_swapColumns_16 : decode cX11_swapColumns 16 = .ok (.if_icmp .ge 35, 3) := dk_162 0 35 (dk_at dksX11_swapColumns_0 16 rfl rfl)
theorem dX11_swapColumns_19 : decode cX11_swapColumns 19 = .ok (.aload_n 3, 1) := dk_45 (dk_at dksX11_swapColumns_0 19 rfl rfl)
theorem dX11_swapColumns_20 : decode cX11_swapColumns 20 = .ok (.iload 5, 2) := dk_21 5 (dk_at dksX11_swapColumns_0 20 rfl rfl)
theorem dX11_swapColumns_22 : decode cX11_swapColumns 22 = .ok (.aaload, 1) := dk_50 (dk_at dksX11_swapColumns_0 22 rfl rfl)
theorem dX11_swapColumns_23 : decode cX11_swapColumns 23 = .ok (.astore 6, 2) := dk_58 6 (dk_at dksX11_swapColumns_1 0 rfl rfl)
theorem dX11_swapColumns_25 : decode cX11_swapColumns 25 = .ok (.aload 6, 2) := dk_25 6 (dk_at dksX11_swapColumns_1 2 rfl rfl)
theorem dX11_swapColumns_27 : decode cX11_swapColumns 27 = .ok (.iload_n 1, 1) := dk_27 (dk_at dksX11_swapColumns_1 4 rfl rfl)
theorem dX11_swapColumns_28 : decode cX11_swapColumns 28 = .ok (.laload, 1) := dk_47 (dk_at dksX11_swapColumns_1 5 rfl rfl)
theorem dX11_swapColumns_29 : decode cX11_swapColumns 29 = .ok (.lstore 7, 2) := dk_55 7 (dk_at dksX11_swapColumns_1 6 rfl rfl)
theorem dX11_swapColumns_31 : decode cX11_swapColumns 31 = .ok (.aload 6, 2) := dk_25 6 (dk_at dksX11_swapColumns_1 8 rfl rfl)
theorem dX11_swapColumns_33 : decode cX11_swapColumns 33 = .ok (.iload_n 1, 1) := dk_27 (dk_at dksX11_swapColumns_1 10 rfl rfl)
theorem dX11_swapColumns_34 : decode cX11_swapColumns 34 = .ok (.aload 6, 2) := dk_25 6 (dk_at dksX11_swapColumns_1 11 rfl rfl)
theorem dX11_swapColumns_36 : decode cX11_swapColumns 36 = .ok (.iload_n 2, 1) := dk_28 (dk_at dksX11_swapColumns_1 13 rfl rfl)
theorem dX11_swapColumns_37 : decode cX11_swapColumns 37 = .ok (.laload, 1) := dk_47 (dk_at dksX11_swapColumns_1 14 rfl rfl)
theorem dX11_swapColumns_38 : decode cX11_swapColumns 38 = .ok (.lastore, 1) := dk_80 (dk_at dksX11_swapColumns_1 15 rfl rfl)
theorem dX11_swapColumns_39 : decode cX11_swapColumns 39 = .ok (.aload 6, 2) := dk_25 6 (dk_at dksX11_swapColumns_1 16 rfl rfl)
theorem dX11_swapColumns_41 : decode cX11_swapColumns 41 = .ok (.iload_n 2, 1) := dk_28 (dk_at dksX11_swapColumns_1 18 rfl rfl)
theorem dX11_swapColumns_42 : decode cX11_swapColumns 42 = .ok (.lload 7, 2) := dk_22 7 (dk_at dksX11_swapColumns_1 19 rfl rfl)
theorem dX11_swapColumns_44 : decode cX11_swapColumns 44 = .ok (.lastore, 1) := dk_80 (dk_at dksX11_swapColumns_1 21 rfl rfl)
theorem dX11_swapColumns_45 : decode cX11_swapColumns 45 = .ok (.iinc 5 1, 3) := dk_132 5 1 (dk_at dksX11_swapColumns_2 0 rfl rfl)
theorem dX11_swapColumns_48 : decode cX11_swapColumns 48 = .ok (.goto (-36), 3) := dk_167 255 220 (dk_at dksX11_swapColumns_2 3 rfl rfl)
theorem dX11_swapColumns_51 : decode cX11_swapColumns 51 = .ok (.return_, 1) := dk_177 (dk_at dksX11_swapColumns_2 6 rfl rfl)
abbrev cX11_clear : ByteArray := prog_12_method_16_code
def yX11_clear : MethodName := ⟨RX11, "clear", "(I)Z"⟩
def dkwX11_clear_8 : List UInt8 := [154, 0, 7, 4, 167, 0, 4, 3, 126, 61, 132, 3, 1, 167, 255, 161, 28, 172]
abbrev dktX11_clear_8 : List UInt8 := dkwX11_clear_8 ++ []
def dkwX11_clear_7 : List UInt8 := [50, 27, 47, 105, 101, 80, 132, 6, 1, 167, 255, 220, 28, 42, 180, 0, 20, 27, 50, 29, 47, 9, 148]
abbrev dktX11_clear_7 : List UInt8 := dkwX11_clear_7 ++ dktX11_clear_8
def dkwX11_clear_6 : List UInt8 := [180, 0, 9, 162, 0, 33, 42, 180, 0, 20, 21, 6, 50, 29, 92, 47, 22, 4, 42, 180, 0, 20, 21, 6]
abbrev dktX11_clear_6 : List UInt8 := dkwX11_clear_6 ++ dktX11_clear_7
def dkwX11_clear_5 : List UInt8 := [180, 0, 20, 27, 50, 29, 47, 42, 180, 0, 20, 27, 50, 27, 47, 109, 55, 4, 3, 54, 6, 21, 6, 42]
abbrev dktX11_clear_5 : List UInt8 := dkwX11_clear_5 ++ dktX11_clear_6
def dkwX11_clear_4 : List UInt8 := [3, 126, 61, 132, 3, 1, 167, 255, 163, 27, 4, 96, 62, 29, 42, 180, 0, 15, 4, 100, 162, 0, 91, 42]
abbrev dktX11_clear_4 : List UInt8 := dkwX11_clear_4 ++ dktX11_clear_5
def dkwX11_clear_3 : List UInt8 := [132, 6, 1, 167, 255, 220, 28, 42, 180, 0, 20, 29, 50, 27, 47, 9, 148, 154, 0, 7, 4, 167, 0, 4]
abbrev dktX11_clear_3 : List UInt8 := dkwX11_clear_3 ++ dktX11_clear_4
def dkwX11_clear_2 : List UInt8 := [180, 0, 20, 29, 50, 21, 6, 92, 47, 22, 4, 42, 180, 0, 20, 27, 50, 21, 6, 47, 105, 101, 80]
abbrev dktX11_clear_2 : List UInt8 := dkwX11_clear_2 ++ dktX11_clear_3
def dkwX11_clear_1 : List UInt8 := [180, 0, 20, 27, 50, 27, 47, 109, 55, 4, 3, 54, 6, 21, 6, 42, 180, 0, 15, 162, 0, 33, 42]
abbrev dktX11_clear_1 : List UInt8 := dkwX11_clear_1 ++ dktX11_clear_2
def dkwX11_clear_0 : List UInt8 := [4, 61, 27, 4, 96, 62, 29, 42, 180, 0, 9, 162, 0, 91, 42, 180, 0, 20, 29, 50, 27, 47, 42]
abbrev dktX11_clear_0 : List UInt8 := dkwX11_clear_0 ++ dktX11_clear_1
theorem dksX11_clear_0 : cX11_clear.data.toList.drop 0 = dktX11_clear_0 := by decide +kernel
theorem dksX11_clear_1 : cX11_clear.data.toList.drop 23 = dktX11_clear_1 := dk_seg dksX11_clear_0 23 rfl rfl
theorem dksX11_clear_2 : cX11_clear.data.toList.drop 46 = dktX11_clear_2 := dk_seg dksX11_clear_1 23 rfl rfl
theorem dksX11_clear_3 : cX11_clear.data.toList.drop 69 = dktX11_clear_3 := dk_seg dksX11_clear_2 23 rfl rfl
theorem dksX11_clear_4 : cX11_clear.data.toList.drop 93 = dktX11_clear_4 := dk_seg dksX11_clear_3 24 rfl rfl
theorem dksX11_clear_5 : cX11_clear.data.toList.drop 117 = dktX11_clear_5 := dk_seg dksX11_clear_4 24 rfl rfl
theorem dksX11_clear_6 : cX11_clear.data.toList.drop 141 = dktX11_clear_6 := dk_seg dksX11_clear_5 24 rfl rfl
theorem dksX11_clear_7 : cX11_clear.data.toList.drop 165 = dktX11_clear_7 := dk_seg dksX11_clear_6 24 rfl rfl
theorem dksX11_clear_8 : cX11_clear.data.toList.drop 188 = dktX11_clear_8 := dk_seg dksX11_clear_7 23 rfl rfl
theorem dX11_clear_0 : decode cX11_clear 0 = .ok (.iconst 1, 1) := dk_4 (dk_at dksX11_clear_0 0 rfl rfl)
theorem dX11_clear_1 : decode cX11_clear 1 = .ok (.istore_n 2, 1) := dk_61 (dk_at dksX11_clear_0 1 rfl rfl)
theorem dX11_clear_2 : decode cX11_clear 2 = .ok (.iload_n 1, 1) := dk_27 (dk_at dksX11_clear_0 2 rfl rfl)
theorem dX11_clear_3 : decode cX11_clear 3 = .ok (.iconst 1, 1) := dk_4 (dk_at dksX11_clear_0 3 rfl rfl)
theorem dX11_clear_4 : decode cX11_clear 4 = .ok (.iadd, 1) := dk_96 (dk_at dksX11_clear_0 4 rfl rfl)
theorem dX11_clear_5 : decode cX11_clear 5 = .ok (.istore_n 3, 1) := dk_62 (dk_at dksX11_clear_0 5 rfl rfl)
theorem dX11_clear_6 : decode cX11_clear 6 = .ok (.iload_n 3, 1) := dk_29 (dk_at dksX11_clear_0 6 rfl rfl)
theorem dX11_clear_7 : decode cX11_clear 7 = .ok (.aload_n 0, 1) := dk_42 (dk_at dksX11_clear_0 7 rfl rfl)
theorem dX11_clear_8 : decode cX11_clear 8 = .ok (.getfield 9, 3) := dk_180 0 9 (dk_at dksX11_clear_0 8 rfl rfl)
theorem dX11_clear_11 : decode cX11_clear 11 = .ok (.if_icmp .ge 91, 3) := dk_162 0 91 (dk_at dksX11_clear_0 11 rfl rfl)
theorem dX11_clear_14 : decode cX11_clear 14 = .ok (.aload_n 0, 1) := dk_42 (dk_at dksX11_clear_0 14 rfl rfl)
theorem dX11_clear_15 : decode cX11_clear 15 = .ok (.getfield 20, 3) := dk_180 0 20 (dk_at dksX11_clear_0 15 rfl rfl)
theorem dX11_clear_18 : decode cX11_clear 18 = .ok (.iload_n 3, 1) := dk_29 (dk_at dksX11_clear_0 18 rfl rfl)
theorem dX11_clear_19 : decode cX11_clear 19 = .ok (.aaload, 1) := dk_50 (dk_at dksX11_clear_0 19 rfl rfl)
theorem dX11_clear_20 : decode cX11_clear 20 = .ok (.iload_n 1, 1) := dk_27 (dk_at dksX11_clear_0 20 rfl rfl)
theorem dX11_clear_21 : decode cX11_clear 21 = .ok (.laload, 1) := dk_47 (dk_at dksX11_clear_0 21 rfl rfl)
theorem dX11_clear_22 : decode cX11_clear 22 = .ok (.aload_n 0, 1) := dk_42 (dk_at dksX11_clear_0 22 rfl rfl)
theorem dX11_clear_23 : decode cX11_clear 23 = .ok (.getfield 20, 3) := dk_180 0 20 (dk_at dksX11_clear_1 0 rfl rfl)
theorem dX11_clear_26 : decode cX11_clear 26 = .ok (.iload_n 1, 1) := dk_27 (dk_at dksX11_clear_1 3 rfl rfl)
theorem dX11_clear_27 : decode cX11_clear 27 = .ok (.aaload, 1) := dk_50 (dk_at dksX11_clear_1 4 rfl rfl)
theorem dX11_clear_28 : decode cX11_clear 28 = .ok (.iload_n 1, 1) := dk_27 (dk_at dksX11_clear_1 5 rfl rfl)
theorem dX11_clear_29 : decode cX11_clear 29 = .ok (.laload, 1) := dk_47 (dk_at dksX11_clear_1 6 rfl rfl)
theorem dX11_clear_30 : decode cX11_clear 30 = .ok (.ldiv, 1) := dk_109 (dk_at dksX11_clear_1 7 rfl rfl)
theorem dX11_clear_31 : decode cX11_clear 31 = .ok (.lstore 4, 2) := dk_55 4 (dk_at dksX11_clear_1 8 rfl rfl)
theorem dX11_clear_33 : decode cX11_clear 33 = .ok (.iconst 0, 1) := dk_3 (dk_at dksX11_clear_1 10 rfl rfl)
theorem dX11_clear_34 : decode cX11_clear 34 = .ok (.istore 6, 2) := dk_54 6 (dk_at dksX11_clear_1 11 rfl rfl)
theorem dX11_clear_36 : decode cX11_clear 36 = .ok (.iload 6, 2) := dk_21 6 (dk_at dksX11_clear_1 13 rfl rfl)
theorem dX11_clear_38 : decode cX11_clear 38 = .ok (.aload_n 0, 1) := dk_42 (dk_at dksX11_clear_1 15 rfl rfl)
theorem dX11_clear_39 : decode cX11_clear 39 = .ok (.getfield 15, 3) := dk_180 0 15 (dk_at dksX11_clear_1 16 rfl rfl)
theorem dX11_clear_42 : decode cX11_clear 42 = .ok (.if_icmp .ge 33, 3) := dk_162 0 33 (dk_at dksX11_clear_1 19 rfl rfl)
theorem dX11_clear_45 : decode cX11_clear 45 = .ok (.aload_n 0, 1) := dk_42 (dk_at dksX11_clear_1 22 rfl rfl)
theorem dX11_clear_46 : decode cX11_clear 46 = .ok (.getfield 20, 3) := dk_180 0 20 (dk_at dksX11_clear_2 0 rfl rfl)
theorem dX11_clear_49 : decode cX11_clear 49 = .ok (.iload_n 3, 1) := dk_29 (dk_at dksX11_clear_2 3 rfl rfl)
theorem dX11_clear_50 : decode cX11_clear 50 = .ok (.aaload, 1) := dk_50 (dk_at dksX11_clear_2 4 rfl rfl)
theorem dX11_clear_51 : decode cX11_clear 51 = .ok (.iload 6, 2) := dk_21 6 (dk_at dksX11_clear_2 5 rfl rfl)
theorem dX11_clear_53 : decode cX11_clear 53 = .ok (.dup2, 1) := dk_92 (dk_at dksX11_clear_2 7 rfl rfl)
theorem dX11_clear_54 : decode cX11_clear 54 = .ok (.laload, 1) := dk_47 (dk_at dksX11_clear_2 8 rfl rfl)
theorem dX11_clear_55 : decode cX11_clear 55 = .ok (.lload 4, 2) := dk_22 4 (dk_at dksX11_clear_2 9 rfl rfl)
theorem dX11_clear_57 : decode cX11_clear 57 = .ok (.aload_n 0, 1) := dk_42 (dk_at dksX11_clear_2 11 rfl rfl)
theorem dX11_clear_58 : decode cX11_clear 58 = .ok (.getfield 20, 3) := dk_180 0 20 (dk_at dksX11_clear_2 12 rfl rfl)
theorem dX11_clear_61 : decode cX11_clear 61 = .ok (.iload_n 1, 1) := dk_27 (dk_at dksX11_clear_2 15 rfl rfl)
theorem dX11_clear_62 : decode cX11_clear 62 = .ok (.aaload, 1) := dk_50 (dk_at dksX11_clear_2 16 rfl rfl)
theorem dX11_clear_63 : decode cX11_clear 63 = .ok (.iload 6, 2) := dk_21 6 (dk_at dksX11_clear_2 17 rfl rfl)
theorem dX11_clear_65 : decode cX11_clear 65 = .ok (.laload, 1) := dk_47 (dk_at dksX11_clear_2 19 rfl rfl)
theorem dX11_clear_66 : decode cX11_clear 66 = .ok (.lmul, 1) := dk_105 (dk_at dksX11_clear_2 20 rfl rfl)
theorem dX11_clear_67 : decode cX11_clear 67 = .ok (.lsub, 1) := dk_101 (dk_at dksX11_clear_2 21 rfl rfl)
theorem dX11_clear_68 : decode cX11_clear 68 = .ok (.lastore, 1) := dk_80 (dk_at dksX11_clear_2 22 rfl rfl)
theorem dX11_clear_69 : decode cX11_clear 69 = .ok (.iinc 6 1, 3) := dk_132 6 1 (dk_at dksX11_clear_3 0 rfl rfl)
theorem dX11_clear_72 : decode cX11_clear 72 = .ok (.goto (-36), 3) := dk_167 255 220 (dk_at dksX11_clear_3 3 rfl rfl)
theorem dX11_clear_75 : decode cX11_clear 75 = .ok (.iload_n 2, 1) := dk_28 (dk_at dksX11_clear_3 6 rfl rfl)
theorem dX11_clear_76 : decode cX11_clear 76 = .ok (.aload_n 0, 1) := dk_42 (dk_at dksX11_clear_3 7 rfl rfl)
theorem dX11_clear_77 : decode cX11_clear 77 = .ok (.getfield 20, 3) := dk_180 0 20 (dk_at dksX11_clear_3 8 rfl rfl)
theorem dX11_clear_80 : decode cX11_clear 80 = .ok (.iload_n 3, 1) := dk_29 (dk_at dksX11_clear_3 11 rfl rfl)
theorem dX11_clear_81 : decode cX11_clear 81 = .ok (.aaload, 1) := dk_50 (dk_at dksX11_clear_3 12 rfl rfl)
theorem dX11_clear_82 : decode cX11_clear 82 = .ok (.iload_n 1, 1) := dk_27 (dk_at dksX11_clear_3 13 rfl rfl)
theorem dX11_clear_83 : decode cX11_clear 83 = .ok (.laload, 1) := dk_47 (dk_at dksX11_clear_3 14 rfl rfl)
theorem dX11_clear_84 : decode cX11_clear 84 = .ok (.lconst 0, 1) := dk_9 (dk_at dksX11_clear_3 15 rfl rfl)
theorem dX11_clear_85 : decode cX11_clear 85 = .ok (.lcmp, 1) := dk_148 (dk_at dksX11_clear_3 16 rfl rfl)
theorem dX11_clear_86 : decode cX11_clear 86 = .ok (.ifCond .ne 7, 3) := dk_154 0 7 (dk_at dksX11_clear_3 17 rfl rfl)
theorem dX11_clear_89 : decode cX11_clear 89 = .ok (.iconst 1, 1) := dk_4 (dk_at dksX11_clear_3 20 rfl rfl)
theorem dX11_clear_90 : decode cX11_clear 90 = .ok (.goto 4, 3) := dk_167 0 4 (dk_at dksX11_clear_3 21 rfl rfl)
theorem dX11_clear_93 : decode cX11_clear 93 = .ok (.iconst 0, 1) := dk_3 (dk_at dksX11_clear_4 0 rfl rfl)
theorem dX11_clear_94 : decode cX11_clear 94 = .ok (.iand, 1) := dk_126 (dk_at dksX11_clear_4 1 rfl rfl)
theorem dX11_clear_95 : decode cX11_clear 95 = .ok (.istore_n 2, 1) := dk_61 (dk_at dksX11_clear_4 2 rfl rfl)
theorem dX11_clear_96 : decode cX11_clear 96 = .ok (.iinc 3 1, 3) := dk_132 3 1 (dk_at dksX11_clear_4 3 rfl rfl)
theorem dX11_clear_99 : decode cX11_clear 99 = .ok (.goto (-93), 3) := dk_167 255 163 (dk_at dksX11_clear_4 6 rfl rfl)
theorem dX11_clear_102 : decode cX11_clear 102 = .ok (.iload_n 1, 1) := dk_27 (dk_at dksX11_clear_4 9 rfl rfl)
theorem dX11_clear_103 : decode cX11_clear 103 = .ok (.iconst 1, 1) := dk_4 (dk_at dksX11_clear_4 10 rfl rfl)
theorem dX11_clear_104 : decode cX11_clear 104 = .ok (.iadd, 1) := dk_96 (dk_at dksX11_clear_4 11 rfl rfl)
theorem dX11_clear_105 : decode cX11_clear 105 = .ok (.istore_n 3, 1) := dk_62 (dk_at dksX11_clear_4 12 rfl rfl)
theorem dX11_clear_106 : decode cX11_clear 106 = .ok (.iload_n 3, 1) := dk_29 (dk_at dksX11_clear_4 13 rfl rfl)
theorem dX11_clear_107 : decode cX11_clear 107 = .ok (.aload_n 0, 1) := dk_42 (dk_at dksX11_clear_4 14 rfl rfl)
theorem dX11_clear_108 : decode cX11_clear 108 = .ok (.getfield 15, 3) := dk_180 0 15 (dk_at dksX11_clear_4 15 rfl rfl)
theorem dX11_clear_111 : decode cX11_clear 111 = .ok (.iconst 1, 1) := dk_4 (dk_at dksX11_clear_4 18 rfl rfl)
theorem dX11_clear_112 : decode cX11_clear 112 = .ok (.isub, 1) := dk_100 (dk_at dksX11_clear_4 19 rfl rfl)
theorem dX11_clear_113 : decode cX11_clear 113 = .ok (.if_icmp .ge 91, 3) := dk_162 0 91 (dk_at dksX11_clear_4 20 rfl rfl)
theorem dX11_clear_116 : decode cX11_clear 116 = .ok (.aload_n 0, 1) := dk_42 (dk_at dksX11_clear_4 23 rfl rfl)
theorem dX11_clear_117 : decode cX11_clear 117 = .ok (.getfield 20, 3) := dk_180 0 20 (dk_at dksX11_clear_5 0 rfl rfl)
theorem dX11_clear_120 : decode cX11_clear 120 = .ok (.iload_n 1, 1) := dk_27 (dk_at dksX11_clear_5 3 rfl rfl)
theorem dX11_clear_121 : decode cX11_clear 121 = .ok (.aaload, 1) := dk_50 (dk_at dksX11_clear_5 4 rfl rfl)
theorem dX11_clear_122 : decode cX11_clear 122 = .ok (.iload_n 3, 1) := dk_29 (dk_at dksX11_clear_5 5 rfl rfl)
theorem dX11_clear_123 : decode cX11_clear 123 = .ok (.laload, 1) := dk_47 (dk_at dksX11_clear_5 6 rfl rfl)
theorem dX11_clear_124 : decode cX11_clear 124 = .ok (.aload_n 0, 1) := dk_42 (dk_at dksX11_clear_5 7 rfl rfl)
theorem dX11_clear_125 : decode cX11_clear 125 = .ok (.getfield 20, 3) := dk_180 0 20 (dk_at dksX11_clear_5 8 rfl rfl)
theorem dX11_clear_128 : decode cX11_clear 128 = .ok (.iload_n 1, 1) := dk_27 (dk_at dksX11_clear_5 11 rfl rfl)
theorem dX11_clear_129 : decode cX11_clear 129 = .ok (.aaload, 1) := dk_50 (dk_at dksX11_clear_5 12 rfl rfl)
theorem dX11_clear_130 : decode cX11_clear 130 = .ok (.iload_n 1, 1) := dk_27 (dk_at dksX11_clear_5 13 rfl rfl)
theorem dX11_clear_131 : decode cX11_clear 131 = .ok (.laload, 1) := dk_47 (dk_at dksX11_clear_5 14 rfl rfl)
theorem dX11_clear_132 : decode cX11_clear 132 = .ok (.ldiv, 1) := dk_109 (dk_at dksX11_clear_5 15 rfl rfl)
theorem dX11_clear_133 : decode cX11_clear 133 = .ok (.lstore 4, 2) := dk_55 4 (dk_at dksX11_clear_5 16 rfl rfl)
theorem dX11_clear_135 : decode cX11_clear 135 = .ok (.iconst 0, 1) := dk_3 (dk_at dksX11_clear_5 18 rfl rfl)
theorem dX11_clear_136 : decode cX11_clear 136 = .ok (.istore 6, 2) := dk_54 6 (dk_at dksX11_clear_5 19 rfl rfl)
theorem dX11_clear_138 : decode cX11_clear 138 = .ok (.iload 6, 2) := dk_21 6 (dk_at dksX11_clear_5 21 rfl rfl)
theorem dX11_clear_140 : decode cX11_clear 140 = .ok (.aload_n 0, 1) := dk_42 (dk_at dksX11_clear_5 23 rfl rfl)
theorem dX11_clear_141 : decode cX11_clear 141 = .ok (.getfield 9, 3) := dk_180 0 9 (dk_at dksX11_clear_6 0 rfl rfl)
theorem dX11_clear_144 : decode cX11_clear 144 = .ok (.if_icmp .ge 33, 3) := dk_162 0 33 (dk_at dksX11_clear_6 3 rfl rfl)
theorem dX11_clear_147 : decode cX11_clear 147 = .ok (.aload_n 0, 1) := dk_42 (dk_at dksX11_clear_6 6 rfl rfl)
theorem dX11_clear_148 : decode cX11_clear 148 = .ok (.getfield 20, 3) := dk_180 0 20 (dk_at dksX11_clear_6 7 rfl rfl)
theorem dX11_clear_151 : decode cX11_clear 151 = .ok (.iload 6, 2) := dk_21 6 (dk_at dksX11_clear_6 10 rfl rfl)
theorem dX11_clear_153 : decode cX11_clear 153 = .ok (.aaload, 1) := dk_50 (dk_at dksX11_clear_6 12 rfl rfl)
theorem dX11_clear_154 : decode cX11_clear 154 = .ok (.iload_n 3, 1) := dk_29 (dk_at dksX11_clear_6 13 rfl rfl)
theorem dX11_clear_155 : decode cX11_clear 155 = .ok (.dup2, 1) := dk_92 (dk_at dksX11_clear_6 14 rfl rfl)
theorem dX11_clear_156 : decode cX11_clear 156 = .ok (.laload, 1) := dk_47 (dk_at dksX11_clear_6 15 rfl rfl)
theorem dX11_clear_157 : decode cX11_clear 157 = .ok (.lload 4, 2) := dk_22 4 (dk_at dksX11_clear_6 16 rfl rfl)
theorem dX11_clear_159 : decode cX11_clear 159 = .ok (.aload_n 0, 1) := dk_42 (dk_at dksX11_clear_6 18 rfl rfl)
theorem dX11_clear_160 : decode cX11_clear 160 = .ok (.getfield 20, 3) := dk_180 0 20 (dk_at dksX11_clear_6 19 rfl rfl)
theorem dX11_clear_163 : decode cX11_clear 163 = .ok (.iload 6, 2) := dk_21 6 (dk_at dksX11_clear_6 22 rfl rfl)
theorem dX11_clear_165 : decode cX11_clear 165 = .ok (.aaload, 1) := dk_50 (dk_at dksX11_clear_7 0 rfl rfl)
theorem dX11_clear_166 : decode cX11_clear 166 = .ok (.iload_n 1, 1) := dk_27 (dk_at dksX11_clear_7 1 rfl rfl)
theorem dX11_clear_167 : decode cX11_clear 167 = .ok (.laload, 1) := dk_47 (dk_at dksX11_clear_7 2 rfl rfl)
theorem dX11_clear_168 : decode cX11_clear 168 = .ok (.lmul, 1) := dk_105 (dk_at dksX11_clear_7 3 rfl rfl)
theorem dX11_clear_169 : decode cX11_clear 169 = .ok (.lsub, 1) := dk_101 (dk_at dksX11_clear_7 4 rfl rfl)
theorem dX11_clear_170 : decode cX11_clear 170 = .ok (.lastore, 1) := dk_80 (dk_at dksX11_clear_7 5 rfl rfl)
theorem dX11_clear_171 : decode cX11_clear 171 = .ok (.iinc 6 1, 3) := dk_132 6 1 (dk_at dksX11_clear_7 6 rfl rfl)
theorem dX11_clear_174 : decode cX11_clear 174 = .ok (.goto (-36), 3) := dk_167 255 220 (dk_at dksX11_clear_7 9 rfl rfl)
theorem dX11_clear_177 : decode cX11_clear 177 = .ok (.iload_n 2, 1) := dk_28 (dk_at dksX11_clear_7 12 rfl rfl)
theorem dX11_clear_178 : decode cX11_clear 178 = .ok (.aload_n 0, 1) := dk_42 (dk_at dksX11_clear_7 13 rfl rfl)
theorem dX11_clear_179 : decode cX11_clear 179 = .ok (.getfield 20, 3) := dk_180 0 20 (dk_at dksX11_clear_7 14 rfl rfl)
theorem dX11_clear_182 : decode cX11_clear 182 = .ok (.iload_n 1, 1) := dk_27 (dk_at dksX11_clear_7 17 rfl rfl)
theorem dX11_clear_183 : decode cX11_clear 183 = .ok (.aaload, 1) := dk_50 (dk_at dksX11_clear_7 18 rfl rfl)
theorem dX11_clear_184 : decode cX11_clear 184 = .ok (.iload_n 3, 1) := dk_29 (dk_at dksX11_clear_7 19 rfl rfl)
theorem dX11_clear_185 : decode cX11_clear 185 = .ok (.laload, 1) := dk_47 (dk_at dksX11_clear_7 20 rfl rfl)
theorem dX11_clear_186 : decode cX11_clear 186 = .ok (.lconst 0, 1) := dk_9 (dk_at dksX11_clear_7 21 rfl rfl)
theorem dX11_clear_187 : decode cX11_clear 187 = .ok (.lcmp, 1) := dk_148 (dk_at dksX11_clear_7 22 rfl rfl)
theorem dX11_clear_188 : decode cX11_clear 188 = .ok (.ifCond .ne 7, 3) := dk_154 0 7 (dk_at dksX11_clear_8 0 rfl rfl)
theorem dX11_clear_191 : decode cX11_clear 191 = .ok (.iconst 1, 1) := dk_4 (dk_at dksX11_clear_8 3 rfl rfl)
theorem dX11_clear_192 : decode cX11_clear 192 = .ok (.goto 4, 3) := dk_167 0 4 (dk_at dksX11_clear_8 4 rfl rfl)
theorem dX11_clear_195 : decode cX11_clear 195 = .ok (.iconst 0, 1) := dk_3 (dk_at dksX11_clear_8 7 rfl rfl)
theorem dX11_clear_196 : decode cX11_clear 196 = .ok (.iand, 1) := dk_126 (dk_at dksX11_clear_8 8 rfl rfl)
theorem dX11_clear_197 : decode cX11_clear 197 = .ok (.istore_n 2, 1) := dk_61 (dk_at dksX11_clear_8 9 rfl rfl)
theorem dX11_clear_198 : decode cX11_clear 198 = .ok (.iinc 3 1, 3) := dk_132 3 1 (dk_at dksX11_clear_8 10 rfl rfl)
theorem dX11_clear_201 : decode cX11_clear 201 = .ok (.goto (-95), 3) := dk_167 255 161 (dk_at dksX11_clear_8 13 rfl rfl)
theorem dX11_clear_204 : decode cX11_clear 204 = .ok (.iload_n 2, 1) := dk_28 (dk_at dksX11_clear_8 16 rfl rfl)
theorem dX11_clear_205 : decode cX11_clear 205 = .ok (.ireturn, 1) := dk_172 (dk_at dksX11_clear_8 17 rfl rfl)
abbrev cX11_rankBy : ByteArray := prog_12_method_13_code
def yX11_rankBy : MethodName := ⟨RX11, "rankBy", "(I)I"⟩
def dkwX11_rankBy_8 : List UInt8 := [132, 11, 1, 167, 255, 207, 132, 8, 1, 167, 255, 166, 132, 3, 1, 132, 4, 1, 167, 255, 60, 29, 172]
abbrev dktX11_rankBy_8 : List UInt8 := dkwX11_rankBy_8 ++ []
def dkwX11_rankBy_7 : List UInt8 := [21, 8, 50, 21, 11, 47, 22, 9, 44, 180, 0, 20, 29, 50, 21, 11, 47, 105, 101, 27, 184, 0, 56, 80]
abbrev dktX11_rankBy_7 : List UInt8 := dkwX11_rankBy_7 ++ dktX11_rankBy_8
def dkwX11_rankBy_6 : List UInt8 := [54, 11, 21, 11, 42, 180, 0, 15, 162, 0, 46, 44, 180, 0, 20, 21, 8, 50, 21, 11, 44, 180, 0, 20]
abbrev dktX11_rankBy_6 : List UInt8 := dkwX11_rankBy_6 ++ dktX11_rankBy_7
def dkwX11_rankBy_5 : List UInt8 := [180, 0, 20, 21, 8, 50, 21, 4, 47, 27, 184, 0, 56, 22, 6, 105, 27, 133, 113, 55, 9, 21, 4]
abbrev dktX11_rankBy_5 : List UInt8 := dkwX11_rankBy_5 ++ dktX11_rankBy_6
def dkwX11_rankBy_4 : List UInt8 := [184, 0, 56, 27, 184, 0, 60, 55, 6, 29, 4, 96, 54, 8, 21, 8, 42, 180, 0, 9, 162, 0, 87, 44]
abbrev dktX11_rankBy_4 : List UInt8 := dkwX11_rankBy_4 ++ dktX11_rankBy_5
def dkwX11_rankBy_3 : List UInt8 := [160, 0, 6, 167, 0, 130, 44, 21, 5, 29, 182, 0, 53, 44, 180, 0, 20, 29, 50, 21, 4, 47, 27]
abbrev dktX11_rankBy_3 : List UInt8 := dkwX11_rankBy_3 ++ dktX11_rankBy_4
def dkwX11_rankBy_2 : List UInt8 := [47, 27, 184, 0, 56, 9, 148, 154, 0, 9, 132, 5, 1, 167, 255, 225, 21, 5, 42, 180, 0, 9]
abbrev dktX11_rankBy_2 : List UInt8 := dkwX11_rankBy_2 ++ dktX11_rankBy_3
def dkwX11_rankBy_1 : List UInt8 := [162, 0, 185, 29, 54, 5, 21, 5, 42, 180, 0, 9, 162, 0, 28, 44, 180, 0, 20, 21, 5, 50, 21, 4]
abbrev dktX11_rankBy_1 : List UInt8 := dkwX11_rankBy_1 ++ dktX11_rankBy_2
def dkwX11_rankBy_0 : List UInt8 := [42, 182, 0, 32, 77, 3, 62, 3, 54, 4, 21, 4, 42, 180, 0, 15, 162, 0, 193, 29, 42, 180, 0, 9]
abbrev dktX11_rankBy_0 : List UInt8 := dkwX11_rankBy_0 ++ dktX11_rankBy_1
theorem dksX11_rankBy_0 : cX11_rankBy.data.toList.drop 0 = dktX11_rankBy_0 := by decide +kernel
theorem dksX11_rankBy_1 : cX11_rankBy.data.toList.drop 24 = dktX11_rankBy_1 := dk_seg dksX11_rankBy_0 24 rfl rfl
theorem dksX11_rankBy_2 : cX11_rankBy.data.toList.drop 48 = dktX11_rankBy_2 := dk_seg dksX11_rankBy_1 24 rfl rfl
theorem dksX11_rankBy_3 : cX11_rankBy.data.toList.drop 70 = dktX11_rankBy_3 := dk_seg dksX11_rankBy_2 22 rfl rfl
theorem dksX11_rankBy_4 : cX11_rankBy.data.toList.drop 93 = dktX11_rankBy_4 := dk_seg dksX11_rankBy_3 23 rfl rfl
theorem dksX11_rankBy_5 : cX11_rankBy.data.toList.drop 117 = dktX11_rankBy_5 := dk_seg dksX11_rankBy_4 24 rfl rfl
theorem dksX11_rankBy_6 : cX11_rankBy.data.toList.drop 140 = dktX11_rankBy_6 := dk_seg dksX11_rankBy_5 23 rfl rfl
theorem dksX11_rankBy_7 : cX11_rankBy.data.toList.drop 164 = dktX11_rankBy_7 := dk_seg dksX11_rankBy_6 24 rfl rfl
theorem dksX11_rankBy_8 : cX11_rankBy.data.toList.drop 188 = dktX11_rankBy_8 := dk_seg dksX11_rankBy_7 24 rfl rfl
theorem dX11_rankBy_0 : decode cX11_rankBy 0 = .ok (.aload_n 0, 1) := dk_42 (dk_at dksX11_rankBy_0 0 rfl rfl)
theorem dX11_rankBy_1 : decode cX11_rankBy 1 = .ok (.invokevirtual 32, 3) := dk_182 0 32 (dk_at dksX11_rankBy_0 1 rfl rfl)
theorem dX11_rankBy_4 : decode cX11_rankBy 4 = .ok (.astore_n 2, 1) := dk_77 (dk_at dksX11_rankBy_0 4 rfl rfl)
theorem dX11_rankBy_5 : decode cX11_rankBy 5 = .ok (.iconst 0, 1) := dk_3 (dk_at dksX11_rankBy_0 5 rfl rfl)
theorem dX11_rankBy_6 : decode cX11_rankBy 6 = .ok (.istore_n 3, 1) := dk_62 (dk_at dksX11_rankBy_0 6 rfl rfl)
theorem dX11_rankBy_7 : decode cX11_rankBy 7 = .ok (.iconst 0, 1) := dk_3 (dk_at dksX11_rankBy_0 7 rfl rfl)
theorem dX11_rankBy_8 : decode cX11_rankBy 8 = .ok (.istore 4, 2) := dk_54 4 (dk_at dksX11_rankBy_0 8 rfl rfl)
theorem dX11_rankBy_10 : decode cX11_rankBy 10 = .ok (.iload 4, 2) := dk_21 4 (dk_at dksX11_rankBy_0 10 rfl rfl)
theorem dX11_rankBy_12 : decode cX11_rankBy 12 = .ok (.aload_n 0, 1) := dk_42 (dk_at dksX11_rankBy_0 12 rfl rfl)
theorem dX11_rankBy_13 : decode cX11_rankBy 13 = .ok (.getfield 15, 3) := dk_180 0 15 (dk_at dksX11_rankBy_0 13 rfl rfl)
theorem dX11_rankBy_16 : decode cX11_rankBy 16 = .ok (.if_icmp .ge 193, 3) := dk_162 0 193 (dk_at dksX11_rankBy_0 16 rfl rfl)
theorem dX11_rankBy_19 : decode cX11_rankBy 19 = .ok (.iload_n 3, 1) := dk_29 (dk_at dksX11_rankBy_0 19 rfl rfl)
theorem dX11_rankBy_20 : decode cX11_rankBy 20 = .ok (.aload_n 0, 1) := dk_42 (dk_at dksX11_rankBy_0 20 rfl rfl)
theorem dX11_rankBy_21 : decode cX11_rankBy 21 = .ok (.getfield 9, 3) := dk_180 0 9 (dk_at dksX11_rankBy_0 21 rfl rfl)
theorem dX11_rankBy_24 : decode cX11_rankBy 24 = .ok (.if_icmp .ge 185, 3) := dk_162 0 185 (dk_at dksX11_rankBy_1 0 rfl rfl)
theorem dX11_rankBy_27 : decode cX11_rankBy 27 = .ok (.iload_n 3, 1) := dk_29 (dk_at dksX11_rankBy_1 3 rfl rfl)
theorem dX11_rankBy_28 : decode cX11_rankBy 28 = .ok (.istore 5, 2) := dk_54 5 (dk_at dksX11_rankBy_1 4 rfl rfl)
theorem dX11_rankBy_30 : decode cX11_rankBy 30 = .ok (.iload 5, 2) := dk_21 5 (dk_at dksX11_rankBy_1 6 rfl rfl)
theorem dX11_rankBy_32 : decode cX11_rankBy 32 = .ok (.aload_n 0, 1) := dk_42 (dk_at dksX11_rankBy_1 8 rfl rfl)
theorem dX11_rankBy_33 : decode cX11_rankBy 33 = .ok (.getfield 9, 3) := dk_180 0 9 (dk_at dksX11_rankBy_1 9 rfl rfl)
theorem dX11_rankBy_36 : decode cX11_rankBy 36 = .ok (.if_icmp .ge 28, 3) := dk_162 0 28 (dk_at dksX11_rankBy_1 12 rfl rfl)
theorem dX11_rankBy_39 : decode cX11_rankBy 39 = .ok (.aload_n 2, 1) := dk_44 (dk_at dksX11_rankBy_1 15 rfl rfl)
theorem dX11_rankBy_40 : decode cX11_rankBy 40 = .ok (.getfield 20, 3) := dk_180 0 20 (dk_at dksX11_rankBy_1 16 rfl rfl)
theorem dX11_rankBy_43 : decode cX11_rankBy 43 = .ok (.iload 5, 2) := dk_21 5 (dk_at dksX11_rankBy_1 19 rfl rfl)
theorem dX11_rankBy_45 : decode cX11_rankBy 45 = .ok (.aaload, 1) := dk_50 (dk_at dksX11_rankBy_1 21 rfl rfl)
theorem dX11_rankBy_46 : decode cX11_rankBy 46 = .ok (.iload 4, 2) := dk_21 4 (dk_at dksX11_rankBy_1 22 rfl rfl)
theorem dX11_rankBy_48 : decode cX11_rankBy 48 = .ok (.laload, 1) := dk_47 (dk_at dksX11_rankBy_2 0 rfl rfl)
theorem dX11_rankBy_49 : decode cX11_rankBy 49 = .ok (.iload_n 1, 1) := dk_27 (dk_at dksX11_rankBy_2 1 rfl rfl)
theorem dX11_rankBy_50 : decode cX11_rankBy 50 = .ok (.invokestatic 56, 3) := dk_184 0 56 (dk_at dksX11_rankBy_2 2 rfl rfl)
theorem dX11_rankBy_53 : decode cX11_rankBy 53 = .ok (.lconst 0, 1) := dk_9 (dk_at dksX11_rankBy_2 5 rfl rfl)
theorem dX11_rankBy_54 : decode cX11_rankBy 54 = .ok (.lcmp, 1) := dk_148 (dk_at dksX11_rankBy_2 6 rfl rfl)
theorem dX11_rankBy_55 : decode cX11_rankBy 55 = .ok (.ifCond .ne 9, 3) := dk_154 0 9 (dk_at dksX11_rankBy_2 7 rfl rfl)
theorem dX11_rankBy_58 : decode cX11_rankBy 58 = .ok (.iinc 5 1, 3) := dk_132 5 1 (dk_at dksX11_rankBy_2 10 rfl rfl)
theorem dX11_rankBy_61 : decode cX11_rankBy 61 = .ok (.goto (-31), 3) := dk_167 255 225 (dk_at dksX11_rankBy_2 13 rfl rfl)
theorem dX11_rankBy_64 : decode cX11_rankBy 64 = .ok (.iload 5, 2) := dk_21 5 (dk_at dksX11_rankBy_2 16 rfl rfl)
theorem dX11_rankBy_66 : decode cX11_rankBy 66 = .ok (.aload_n 0, 1) := dk_42 (dk_at dksX11_rankBy_2 18 rfl rfl)
theorem dX11_rankBy_67 : decode cX11_rankBy 67 = .ok (.getfield 9, 3) := dk_180 0 9 (dk_at dksX11_rankBy_2 19 rfl rfl)
theorem dX11_rankBy_70 : decode cX11_rankBy 70 = .ok (.if_icmp .ne 6, 3) := dk_160 0 6 (dk_at dksX11_rankBy_3 0 rfl rfl)
theorem dX11_rankBy_73 : decode cX11_rankBy 73 = .ok (.goto 130, 3) := dk_167 0 130 (dk_at dksX11_rankBy_3 3 rfl rfl)
theorem dX11_rankBy_76 : decode cX11_rankBy 76 = .ok (.aload_n 2, 1) := dk_44 (dk_at dksX11_rankBy_3 6 rfl rfl)
theorem dX11_rankBy_77 : decode cX11_rankBy 77 = .ok (.iload 5, 2) := dk_21 5 (dk_at dksX11_rankBy_3 7 rfl rfl)
theorem dX11_rankBy_79 : decode cX11_rankBy 79 = .ok (.iload_n 3, 1) := dk_29 (dk_at dksX11_rankBy_3 9 rfl rfl)
theorem dX11_rankBy_80 : decode cX11_rankBy 80 = .ok (.invokevirtual 53, 3) := dk_182 0 53 (dk_at dksX11_rankBy_3 10 rfl rfl)
theorem dX11_rankBy_83 : decode cX11_rankBy 83 = .ok (.aload_n 2, 1) := dk_44 (dk_at dksX11_rankBy_3 13 rfl rfl)
theorem dX11_rankBy_84 : decode cX11_rankBy 84 = .ok (.getfield 20, 3) := dk_180 0 20 (dk_at dksX11_rankBy_3 14 rfl rfl)
theorem dX11_rankBy_87 : decode cX11_rankBy 87 = .ok (.iload_n 3, 1) := dk_29 (dk_at dksX11_rankBy_3 17 rfl rfl)
theorem dX11_rankBy_88 : decode cX11_rankBy 88 = .ok (.aaload, 1) := dk_50 (dk_at dksX11_rankBy_3 18 rfl rfl)
theorem dX11_rankBy_89 : decode cX11_rankBy 89 = .ok (.iload 4, 2) := dk_21 4 (dk_at dksX11_rankBy_3 19 rfl rfl)
theorem dX11_rankBy_91 : decode cX11_rankBy 91 = .ok (.laload, 1) := dk_47 (dk_at dksX11_rankBy_3 21 rfl rfl)
theorem dX11_rankBy_92 : decode cX11_rankBy 92 = .ok (.iload_n 1, 1) := dk_27 (dk_at dksX11_rankBy_3 22 rfl rfl)
theorem dX11_rankBy_93 : decode cX11_rankBy 93 = .ok (.invokestatic 56, 3) := dk_184 0 56 (dk_at dksX11_rankBy_4 0 rfl rfl)
theorem dX11_rankBy_96 : decode cX11_rankBy 96 = .ok (.iload_n 1, 1) := dk_27 (dk_at dksX11_rankBy_4 3 rfl rfl)
theorem dX11_rankBy_97 : decode cX11_rankBy 97 = .ok (.invokestatic 60, 3) := dk_184 0 60 (dk_at dksX11_rankBy_4 4 rfl rfl)
theorem dX11_rankBy_100 : decode cX11_rankBy 100 = .ok (.lstore 6, 2) := dk_55 6 (dk_at dksX11_rankBy_4 7 rfl rfl)
theorem dX11_rankBy_102 : decode cX11_rankBy 102 = .ok (.iload_n 3, 1) := dk_29 (dk_at dksX11_rankBy_4 9 rfl rfl)
theorem dX11_rankBy_103 : decode cX11_rankBy 103 = .ok (.iconst 1, 1) := dk_4 (dk_at dksX11_rankBy_4 10 rfl rfl)
theorem dX11_rankBy_104 : decode cX11_rankBy 104 = .ok (.iadd, 1) := dk_96 (dk_at dksX11_rankBy_4 11 rfl rfl)
theorem dX11_rankBy_105 : decode cX11_rankBy 105 = .ok (.istore 8, 2) := dk_54 8 (dk_at dksX11_rankBy_4 12 rfl rfl)
theorem dX11_rankBy_107 : decode cX11_rankBy 107 = .ok (.iload 8, 2) := dk_21 8 (dk_at dksX11_rankBy_4 14 rfl rfl)
theorem dX11_rankBy_109 : decode cX11_rankBy 109 = .ok (.aload_n 0, 1) := dk_42 (dk_at dksX11_rankBy_4 16 rfl rfl)
theorem dX11_rankBy_110 : decode cX11_rankBy 110 = .ok (.getfield 9, 3) := dk_180 0 9 (dk_at dksX11_rankBy_4 17 rfl rfl)
theorem dX11_rankBy_113 : decode cX11_rankBy 113 = .ok (.if_icmp .ge 87, 3) := dk_162 0 87 (dk_at dksX11_rankBy_4 20 rfl rfl)
theorem dX11_rankBy_116 : decode cX11_rankBy 116 = .ok (.aload_n 2, 1) := dk_44 (dk_at dksX11_rankBy_4 23 rfl rfl)
theorem dX11_rankBy_117 : decode cX11_rankBy 117 = .ok (.getfield 20, 3) := dk_180 0 20 (dk_at dksX11_rankBy_5 0 rfl rfl)
theorem dX11_rankBy_120 : decode cX11_rankBy 120 = .ok (.iload 8, 2) := dk_21 8 (dk_at dksX11_rankBy_5 3 rfl rfl)
theorem dX11_rankBy_122 : decode cX11_rankBy 122 = .ok (.aaload, 1) := dk_50 (dk_at dksX11_rankBy_5 5 rfl rfl)
theorem dX11_rankBy_123 : decode cX11_rankBy 123 = .ok (.iload 4, 2) := dk_21 4 (dk_at dksX11_rankBy_5 6 rfl rfl)
theorem dX11_rankBy_125 : decode cX11_rankBy 125 = .ok (.laload, 1) := dk_47 (dk_at dksX11_rankBy_5 8 rfl rfl)
theorem dX11_rankBy_126 : decode cX11_rankBy 126 = .ok (.iload_n 1, 1) := dk_27 (dk_at dksX11_rankBy_5 9 rfl rfl)
theorem dX11_rankBy_127 : decode cX11_rankBy 127 = .ok (.invokestatic 56, 3) := dk_184 0 56 (dk_at dksX11_rankBy_5 10 rfl rfl)
theorem dX11_rankBy_130 : decode cX11_rankBy 130 = .ok (.lload 6, 2) := dk_22 6 (dk_at dksX11_rankBy_5 13 rfl rfl)
theorem dX11_rankBy_132 : decode cX11_rankBy 132 = .ok (.lmul, 1) := dk_105 (dk_at dksX11_rankBy_5 15 rfl rfl)
theorem dX11_rankBy_133 : decode cX11_rankBy 133 = .ok (.iload_n 1, 1) := dk_27 (dk_at dksX11_rankBy_5 16 rfl rfl)
theorem dX11_rankBy_134 : decode cX11_rankBy 134 = .ok (.i2l, 1) := dk_133 (dk_at dksX11_rankBy_5 17 rfl rfl)
theorem dX11_rankBy_135 : decode cX11_rankBy 135 = .ok (.lrem, 1) := dk_113 (dk_at dksX11_rankBy_5 18 rfl rfl)
theorem dX11_rankBy_136 : decode cX11_rankBy 136 = .ok (.lstore 9, 2) := dk_55 9 (dk_at dksX11_rankBy_5 19 rfl rfl)
theorem dX11_rankBy_138 : decode cX11_rankBy 138 = .ok (.iload 4, 2) := dk_21 4 (dk_at dksX11_rankBy_5 21 rfl rfl)
theorem dX11_rankBy_140 : decode cX11_rankBy 140 = .ok (.istore 11, 2) := dk_54 11 (dk_at dksX11_rankBy_6 0 rfl rfl)
theorem dX11_rankBy_142 : decode cX11_rankBy 142 = .ok (.iload 11, 2) := dk_21 11 (dk_at dksX11_rankBy_6 2 rfl rfl)
theorem dX11_rankBy_144 : decode cX11_rankBy 144 = .ok (.aload_n 0, 1) := dk_42 (dk_at dksX11_rankBy_6 4 rfl rfl)
theorem dX11_rankBy_145 : decode cX11_rankBy 145 = .ok (.getfield 15, 3) := dk_180 0 15 (dk_at dksX11_rankBy_6 5 rfl rfl)
theorem dX11_rankBy_148 : decode cX11_rankBy 148 = .ok (.if_icmp .ge 46, 3) := dk_162 0 46 (dk_at dksX11_rankBy_6 8 rfl rfl)
theorem dX11_rankBy_151 : decode cX11_rankBy 151 = .ok (.aload_n 2, 1) := dk_44 (dk_at dksX11_rankBy_6 11 rfl rfl)
theorem dX11_rankBy_152 : decode cX11_rankBy 152 = .ok (.getfield 20, 3) := dk_180 0 20 (dk_at dksX11_rankBy_6 12 rfl rfl)
theorem dX11_rankBy_155 : decode cX11_rankBy 155 = .ok (.iload 8, 2) := dk_21 8 (dk_at dksX11_rankBy_6 15 rfl rfl)
theorem dX11_rankBy_157 : decode cX11_rankBy 157 = .ok (.aaload, 1) := dk_50 (dk_at dksX11_rankBy_6 17 rfl rfl)
theorem dX11_rankBy_158 : decode cX11_rankBy 158 = .ok (.iload 11, 2) := dk_21 11 (dk_at dksX11_rankBy_6 18 rfl rfl)
theorem dX11_rankBy_160 : decode cX11_rankBy 160 = .ok (.aload_n 2, 1) := dk_44 (dk_at dksX11_rankBy_6 20 rfl rfl)
theorem dX11_rankBy_161 : decode cX11_rankBy 161 = .ok (.getfield 20, 3) := dk_180 0 20 (dk_at dksX11_rankBy_6 21 rfl rfl)
theorem dX11_rankBy_164 : decode cX11_rankBy 164 = .ok (.iload 8, 2) := dk_21 8 (dk_at dksX11_rankBy_7 0 rfl rfl)
theorem dX11_rankBy_166 : decode cX11_rankBy 166 = .ok (.aaload, 1) := dk_50 (dk_at dksX11_rankBy_7 2 rfl rfl)
theorem dX11_rankBy_167 : decode cX11_rankBy 167 = .ok (.iload 11, 2) := dk_21 11 (dk_at dksX11_rankBy_7 3 rfl rfl)
theorem dX11_rankBy_169 : decode cX11_rankBy 169 = .ok (.laload, 1) := dk_47 (dk_at dksX11_rankBy_7 5 rfl rfl)
theorem dX11_rankBy_170 : decode cX11_rankBy 170 = .ok (.lload 9, 2) := dk_22 9 (dk_at dksX11_rankBy_7 6 rfl rfl)
theorem dX11_rankBy_172 : decode cX11_rankBy 172 = .ok (.aload_n 2, 1) := dk_44 (dk_at dksX11_rankBy_7 8 rfl rfl)
theorem dX11_rankBy_173 : decode cX11_rankBy 173 = .ok (.getfield 20, 3) := dk_180 0 20 (dk_at dksX11_rankBy_7 9 rfl rfl)
theorem dX11_rankBy_176 : decode cX11_rankBy 176 = .ok (.iload_n 3, 1) := dk_29 (dk_at dksX11_rankBy_7 12 rfl rfl)
theorem dX11_rankBy_177 : decode cX11_rankBy 177 = .ok (.aaload, 1) := dk_50 (dk_at dksX11_rankBy_7 13 rfl rfl)
theorem dX11_rankBy_178 : decode cX11_rankBy 178 = .ok (.iload 11, 2) := dk_21 11 (dk_at dksX11_rankBy_7 14 rfl rfl)
theorem dX11_rankBy_180 : decode cX11_rankBy 180 = .ok (.laload, 1) := dk_47 (dk_at dksX11_rankBy_7 16 rfl rfl)
theorem dX11_rankBy_181 : decode cX11_rankBy 181 = .ok (.lmul, 1) := dk_105 (dk_at dksX11_rankBy_7 17 rfl rfl)
theorem dX11_rankBy_182 : decode cX11_rankBy 182 = .ok (.lsub, 1) := dk_101 (dk_at dksX11_rankBy_7 18 rfl rfl)
theorem dX11_rankBy_183 : decode cX11_rankBy 183 = .ok (.iload_n 1, 1) := dk_27 (dk_at dksX11_rankBy_7 19 rfl rfl)
theorem dX11_rankBy_184 : decode cX11_rankBy 184 = .ok (.invokestatic 56, 3) := dk_184 0 56 (dk_at dksX11_rankBy_7 20 rfl rfl)
theorem dX11_rankBy_187 : decode cX11_rankBy 187 = .ok (.lastore, 1) := dk_80 (dk_at dksX11_rankBy_7 23 rfl rfl)
theorem dX11_rankBy_188 : decode cX11_rankBy 188 = .ok (.iinc 11 1, 3) := dk_132 11 1 (dk_at dksX11_rankBy_8 0 rfl rfl)
theorem dX11_rankBy_191 : decode cX11_rankBy 191 = .ok (.goto (-49), 3) := dk_167 255 207 (dk_at dksX11_rankBy_8 3 rfl rfl)
theorem dX11_rankBy_194 : decode cX11_rankBy 194 = .ok (.iinc 8 1, 3) := dk_132 8 1 (dk_at dksX11_rankBy_8 6 rfl rfl)
theorem dX11_rankBy_197 : decode cX11_rankBy 197 = .ok (.goto (-90), 3) := dk_167 255 166 (dk_at dksX11_rankBy_8 9 rfl rfl)
theorem dX11_rankBy_200 : decode cX11_rankBy 200 = .ok (.iinc 3 1, 3) := dk_132 3 1 (dk_at dksX11_rankBy_8 12 rfl rfl)
theorem dX11_rankBy_203 : decode cX11_rankBy 203 = .ok (.iinc 4 1, 3) := dk_132 4 1 (dk_at dksX11_rankBy_8 15 rfl rfl)
theorem dX11_rankBy_206 : decode cX11_rankBy 206 = .ok (.goto (-196), 3) := dk_167 255 60 (dk_at dksX11_rankBy_8 18 rfl rfl)
theorem dX11_rankBy_209 : decode cX11_rankBy 209 = .ok (.iload_n 3, 1) := dk_29 (dk_at dksX11_rankBy_8 21 rfl rfl)
theorem dX11_rankBy_210 : decode cX11_rankBy 210 = .ok (.ireturn, 1) := dk_172 (dk_at dksX11_rankBy_8 22 rfl rfl)
abbrev cX11_leftBy : ByteArray := prog_12_method_11_code
def yX11_leftBy : MethodName := ⟨RX11, "leftBy", "(JI)J"⟩
def dkwX11_leftBy_0 : List UInt8 := [30, 28, 133, 113, 28, 133, 97, 28, 133, 113, 173]
abbrev dktX11_leftBy_0 : List UInt8 := dkwX11_leftBy_0 ++ []
theorem dksX11_leftBy_0 : cX11_leftBy.data.toList.drop 0 = dktX11_leftBy_0 := by decide +kernel
theorem dX11_leftBy_0 : decode cX11_leftBy 0 = .ok (.lload_n 0, 1) := dk_30 (dk_at dksX11_leftBy_0 0 rfl rfl)
theorem dX11_leftBy_1 : decode cX11_leftBy 1 = .ok (.iload_n 2, 1) := dk_28 (dk_at dksX11_leftBy_0 1 rfl rfl)
theorem dX11_leftBy_2 : decode cX11_leftBy 2 = .ok (.i2l, 1) := dk_133 (dk_at dksX11_leftBy_0 2 rfl rfl)
theorem dX11_leftBy_3 : decode cX11_leftBy 3 = .ok (.lrem, 1) := dk_113 (dk_at dksX11_leftBy_0 3 rfl rfl)
theorem dX11_leftBy_4 : decode cX11_leftBy 4 = .ok (.iload_n 2, 1) := dk_28 (dk_at dksX11_leftBy_0 4 rfl rfl)
theorem dX11_leftBy_5 : decode cX11_leftBy 5 = .ok (.i2l, 1) := dk_133 (dk_at dksX11_leftBy_0 5 rfl rfl)
theorem dX11_leftBy_6 : decode cX11_leftBy 6 = .ok (.ladd, 1) := dk_97 (dk_at dksX11_leftBy_0 6 rfl rfl)
theorem dX11_leftBy_7 : decode cX11_leftBy 7 = .ok (.iload_n 2, 1) := dk_28 (dk_at dksX11_leftBy_0 7 rfl rfl)
theorem dX11_leftBy_8 : decode cX11_leftBy 8 = .ok (.i2l, 1) := dk_133 (dk_at dksX11_leftBy_0 8 rfl rfl)
theorem dX11_leftBy_9 : decode cX11_leftBy 9 = .ok (.lrem, 1) := dk_113 (dk_at dksX11_leftBy_0 9 rfl rfl)
theorem dX11_leftBy_10 : decode cX11_leftBy 10 = .ok (.lreturn, 1) := dk_173 (dk_at dksX11_leftBy_0 10 rfl rfl)
abbrev cX11_inverse : ByteArray := prog_12_method_12_code
def yX11_inverse : MethodName := ⟨RX11, "inverse", "(JI)J"⟩
def dkwX11_inverse_0 : List UInt8 := [10, 66, 33, 30, 105, 28, 133, 113, 10, 148, 153, 0, 10, 33, 10, 97, 66, 167, 255, 241, 33, 173]
abbrev dktX11_inverse_0 : List UInt8 := dkwX11_inverse_0 ++ []
theorem dksX11_inverse_0 : cX11_inverse.data.toList.drop 0 = dktX11_inverse_0 := by decide +kernel
theorem dX11_inverse_0 : decode cX11_inverse 0 = .ok (.lconst 1, 1) := dk_10 (dk_at dksX11_inverse_0 0 rfl rfl)
theorem dX11_inverse_1 : decode cX11_inverse 1 = .ok (.lstore_n 3, 1) := dk_66 (dk_at dksX11_inverse_0 1 rfl rfl)
theorem dX11_inverse_2 : decode cX11_inverse 2 = .ok (.lload_n 3, 1) := dk_33 (dk_at dksX11_inverse_0 2 rfl rfl)
theorem dX11_inverse_3 : decode cX11_inverse 3 = .ok (.lload_n 0, 1) := dk_30 (dk_at dksX11_inverse_0 3 rfl rfl)
theorem dX11_inverse_4 : decode cX11_inverse 4 = .ok (.lmul, 1) := dk_105 (dk_at dksX11_inverse_0 4 rfl rfl)
theorem dX11_inverse_5 : decode cX11_inverse 5 = .ok (.iload_n 2, 1) := dk_28 (dk_at dksX11_inverse_0 5 rfl rfl)
theorem dX11_inverse_6 : decode cX11_inverse 6 = .ok (.i2l, 1) := dk_133 (dk_at dksX11_inverse_0 6 rfl rfl)
theorem dX11_inverse_7 : decode cX11_inverse 7 = .ok (.lrem, 1) := dk_113 (dk_at dksX11_inverse_0 7 rfl rfl)
theorem dX11_inverse_8 : decode cX11_inverse 8 = .ok (.lconst 1, 1) := dk_10 (dk_at dksX11_inverse_0 8 rfl rfl)
theorem dX11_inverse_9 : decode cX11_inverse 9 = .ok (.lcmp, 1) := dk_148 (dk_at dksX11_inverse_0 9 rfl rfl)
theorem dX11_inverse_10 : decode cX11_inverse 10 = .ok (.ifCond .eq 10, 3) := dk_153 0 10 (dk_at dksX11_inverse_0 10 rfl rfl)
theorem dX11_inverse_13 : decode cX11_inverse 13 = .ok (.lload_n 3, 1) := dk_33 (dk_at dksX11_inverse_0 13 rfl rfl)
theorem dX11_inverse_14 : decode cX11_inverse 14 = .ok (.lconst 1, 1) := dk_10 (dk_at dksX11_inverse_0 14 rfl rfl)
theorem dX11_inverse_15 : decode cX11_inverse 15 = .ok (.ladd, 1) := dk_97 (dk_at dksX11_inverse_0 15 rfl rfl)
theorem dX11_inverse_16 : decode cX11_inverse 16 = .ok (.lstore_n 3, 1) := dk_66 (dk_at dksX11_inverse_0 16 rfl rfl)
theorem dX11_inverse_17 : decode cX11_inverse 17 = .ok (.goto (-15), 3) := dk_167 255 241 (dk_at dksX11_inverse_0 17 rfl rfl)
theorem dX11_inverse_20 : decode cX11_inverse 20 = .ok (.lload_n 3, 1) := dk_33 (dk_at dksX11_inverse_0 20 rfl rfl)
theorem dX11_inverse_21 : decode cX11_inverse 21 = .ok (.lreturn, 1) := dk_173 (dk_at dksX11_inverse_0 21 rfl rfl)
abbrev cX11_some : ByteArray := prog_12_method_6_code
def yX11_some : MethodName := ⟨RX11, "some", "(I)LChainParts$Table;"⟩
def dkwX11_some_3 : List UInt8 := [80, 132, 5, 1, 167, 255, 225, 132, 3, 1, 132, 4, 1, 167, 255, 192, 44, 176]
abbrev dktX11_some_3 : List UInt8 := dkwX11_some_3 ++ []
def dkwX11_some_2 : List UInt8 := [180, 0, 9, 162, 0, 28, 44, 180, 0, 20, 21, 5, 50, 29, 42, 180, 0, 20, 21, 5, 50, 21, 4, 47]
abbrev dktX11_some_2 : List UInt8 := dkwX11_some_2 ++ dktX11_some_3
def dkwX11_some_1 : List UInt8 := [180, 0, 15, 162, 0, 61, 27, 21, 4, 184, 0, 42, 154, 0, 6, 167, 0, 43, 3, 54, 5, 21, 5, 42]
abbrev dktX11_some_1 : List UInt8 := dkwX11_some_1 ++ dktX11_some_2
def dkwX11_some_0 : List UInt8 := [187, 0, 10, 89, 42, 180, 0, 9, 27, 184, 0, 36, 183, 0, 23, 77, 3, 62, 3, 54, 4, 21, 4, 42]
abbrev dktX11_some_0 : List UInt8 := dkwX11_some_0 ++ dktX11_some_1
theorem dksX11_some_0 : cX11_some.data.toList.drop 0 = dktX11_some_0 := by decide +kernel
theorem dksX11_some_1 : cX11_some.data.toList.drop 24 = dktX11_some_1 := dk_seg dksX11_some_0 24 rfl rfl
theorem dksX11_some_2 : cX11_some.data.toList.drop 48 = dktX11_some_2 := dk_seg dksX11_some_1 24 rfl rfl
theorem dksX11_some_3 : cX11_some.data.toList.drop 72 = dktX11_some_3 := dk_seg dksX11_some_2 24 rfl rfl
theorem dX11_some_0 : decode cX11_some 0 = .ok (.new 10, 3) := dk_187 0 10 (dk_at dksX11_some_0 0 rfl rfl)
theorem dX11_some_3 : decode cX11_some 3 = .ok (.dup, 1) := dk_89 (dk_at dksX11_some_0 3 rfl rfl)
theorem dX11_some_4 : decode cX11_some 4 = .ok (.aload_n 0, 1) := dk_42 (dk_at dksX11_some_0 4 rfl rfl)
theorem dX11_some_5 : decode cX11_some 5 = .ok (.getfield 9, 3) := dk_180 0 9 (dk_at dksX11_some_0 5 rfl rfl)
theorem dX11_some_8 : decode cX11_some 8 = .ok (.iload_n 1, 1) := dk_27 (dk_at dksX11_some_0 8 rfl rfl)
theorem dX11_some_9 : decode cX11_some 9 = .ok (.invokestatic 36, 3) := dk_184 0 36 (dk_at dksX11_some_0 9 rfl rfl)
theorem dX11_some_12 : decode cX11_some 12 = .ok (.invokespecial 23, 3) := dk_183 0 23 (dk_at dksX11_some_0 12 rfl rfl)
theorem dX11_some_15 : decode cX11_some 15 = .ok (.astore_n 2, 1) := dk_77 (dk_at dksX11_some_0 15 rfl rfl)
theorem dX11_some_16 : decode cX11_some 16 = .ok (.iconst 0, 1) := dk_3 (dk_at dksX11_some_0 16 rfl rfl)
theorem dX11_some_17 : decode cX11_some 17 = .ok (.istore_n 3, 1) := dk_62 (dk_at dksX11_some_0 17 rfl rfl)
theorem dX11_some_18 : decode cX11_some 18 = .ok (.iconst 0, 1) := dk_3 (dk_at dksX11_some_0 18 rfl rfl)
theorem dX11_some_19 : decode cX11_some 19 = .ok (.istore 4, 2) := dk_54 4 (dk_at dksX11_some_0 19 rfl rfl)
theorem dX11_some_21 : decode cX11_some 21 = .ok (.iload 4, 2) := dk_21 4 (dk_at dksX11_some_0 21 rfl rfl)
theorem dX11_some_23 : decode cX11_some 23 = .ok (.aload_n 0, 1) := dk_42 (dk_at dksX11_some_0 23 rfl rfl)
theorem dX11_some_24 : decode cX11_some 24 = .ok (.getfield 15, 3) := dk_180 0 15 (dk_at dksX11_some_1 0 rfl rfl)
theorem dX11_some_27 : decode cX11_some 27 = .ok (.if_icmp .ge 61, 3) := dk_162 0 61 (dk_at dksX11_some_1 3 rfl rfl)
theorem dX11_some_30 : decode cX11_some 30 = .ok (.iload_n 1, 1) := dk_27 (dk_at dksX11_some_1 6 rfl rfl)
theorem dX11_some_31 : decode cX11_some 31 = .ok (.iload 4, 2) := dk_21 4 (dk_at dksX11_some_1 7 rfl rfl)
theorem dX11_some_33 : decode cX11_some 33 = .ok (.invokestatic 42, 3) := dk_184 0 42 (dk_at dksX11_some_1 9 rfl rfl)
theorem dX11_some_36 : decode cX11_some 36 = .ok (.ifCond .ne 6, 3) := dk_154 0 6 (dk_at dksX11_some_1 12 rfl rfl)
theorem dX11_some_39 : decode cX11_some 39 = .ok (.goto 43, 3) := dk_167 0 43 (dk_at dksX11_some_1 15 rfl rfl)
theorem dX11_some_42 : decode cX11_some 42 = .ok (.iconst 0, 1) := dk_3 (dk_at dksX11_some_1 18 rfl rfl)
theorem dX11_some_43 : decode cX11_some 43 = .ok (.istore 5, 2) := dk_54 5 (dk_at dksX11_some_1 19 rfl rfl)
theorem dX11_some_45 : decode cX11_some 45 = .ok (.iload 5, 2) := dk_21 5 (dk_at dksX11_some_1 21 rfl rfl)
theorem dX11_some_47 : decode cX11_some 47 = .ok (.aload_n 0, 1) := dk_42 (dk_at dksX11_some_1 23 rfl rfl)
theorem dX11_some_48 : decode cX11_some 48 = .ok (.getfield 9, 3) := dk_180 0 9 (dk_at dksX11_some_2 0 rfl rfl)
theorem dX11_some_51 : decode cX11_some 51 = .ok (.if_icmp .ge 28, 3) := dk_162 0 28 (dk_at dksX11_some_2 3 rfl rfl)
theorem dX11_some_54 : decode cX11_some 54 = .ok (.aload_n 2, 1) := dk_44 (dk_at dksX11_some_2 6 rfl rfl)
theorem dX11_some_55 : decode cX11_some 55 = .ok (.getfield 20, 3) := dk_180 0 20 (dk_at dksX11_some_2 7 rfl rfl)
theorem dX11_some_58 : decode cX11_some 58 = .ok (.iload 5, 2) := dk_21 5 (dk_at dksX11_some_2 10 rfl rfl)
theorem dX11_some_60 : decode cX11_some 60 = .ok (.aaload, 1) := dk_50 (dk_at dksX11_some_2 12 rfl rfl)
theorem dX11_some_61 : decode cX11_some 61 = .ok (.iload_n 3, 1) := dk_29 (dk_at dksX11_some_2 13 rfl rfl)
theorem dX11_some_62 : decode cX11_some 62 = .ok (.aload_n 0, 1) := dk_42 (dk_at dksX11_some_2 14 rfl rfl)
theorem dX11_some_63 : decode cX11_some 63 = .ok (.getfield 20, 3) := dk_180 0 20 (dk_at dksX11_some_2 15 rfl rfl)
theorem dX11_some_66 : decode cX11_some 66 = .ok (.iload 5, 2) := dk_21 5 (dk_at dksX11_some_2 18 rfl rfl)
theorem dX11_some_68 : decode cX11_some 68 = .ok (.aaload, 1) := dk_50 (dk_at dksX11_some_2 20 rfl rfl)
theorem dX11_some_69 : decode cX11_some 69 = .ok (.iload 4, 2) := dk_21 4 (dk_at dksX11_some_2 21 rfl rfl)
theorem dX11_some_71 : decode cX11_some 71 = .ok (.laload, 1) := dk_47 (dk_at dksX11_some_2 23 rfl rfl)
theorem dX11_some_72 : decode cX11_some 72 = .ok (.lastore, 1) := dk_80 (dk_at dksX11_some_3 0 rfl rfl)
theorem dX11_some_73 : decode cX11_some 73 = .ok (.iinc 5 1, 3) := dk_132 5 1 (dk_at dksX11_some_3 1 rfl rfl)
theorem dX11_some_76 : decode cX11_some 76 = .ok (.goto (-31), 3) := dk_167 255 225 (dk_at dksX11_some_3 4 rfl rfl)
theorem dX11_some_79 : decode cX11_some 79 = .ok (.iinc 3 1, 3) := dk_132 3 1 (dk_at dksX11_some_3 7 rfl rfl)
theorem dX11_some_82 : decode cX11_some 82 = .ok (.iinc 4 1, 3) := dk_132 4 1 (dk_at dksX11_some_3 10 rfl rfl)
theorem dX11_some_85 : decode cX11_some 85 = .ok (.goto (-64), 3) := dk_167 255 192 (dk_at dksX11_some_3 13 rfl rfl)
theorem dX11_some_88 : decode cX11_some 88 = .ok (.aload_n 2, 1) := dk_44 (dk_at dksX11_some_3 16 rfl rfl)
theorem dX11_some_89 : decode cX11_some 89 = .ok (.areturn, 1) := dk_176 (dk_at dksX11_some_3 17 rfl rfl)
abbrev cX11_twists : ByteArray := prog_12_method_19_code
def yX11_twists : MethodName := ⟨RX11, "twists", "()[J"⟩
def dkwX11_twists_5 : List UInt8 := [167, 255, 194, 45, 176]
abbrev dktX11_twists_5 : List UInt8 := dkwX11_twists_5 ++ []
def dkwX11_twists_4 : List UInt8 := [22, 6, 109, 45, 21, 5, 47, 105, 80, 45, 21, 4, 22, 6, 80, 132, 5, 1, 167, 255, 212, 132, 4, 1]
abbrev dktX11_twists_4 : List UInt8 := dkwX11_twists_4 ++ dktX11_twists_5
def dkwX11_twists_3 : List UInt8 := [162, 0, 44, 45, 21, 4, 47, 45, 21, 5, 47, 184, 0, 94, 55, 6, 45, 21, 5, 45, 21, 4, 47]
abbrev dktX11_twists_3 : List UInt8 := dkwX11_twists_3 ++ dktX11_twists_4
def dkwX11_twists_2 : List UInt8 := [132, 4, 1, 167, 255, 230, 3, 54, 4, 21, 4, 28, 162, 0, 62, 21, 4, 4, 96, 54, 5, 21, 5, 28]
abbrev dktX11_twists_2 : List UInt8 := dkwX11_twists_2 ++ dktX11_twists_3
def dkwX11_twists_1 : List UInt8 := [21, 4, 28, 162, 0, 26, 45, 21, 4, 43, 180, 0, 20, 21, 4, 50, 21, 4, 47, 184, 0, 64, 80]
abbrev dktX11_twists_1 : List UInt8 := dkwX11_twists_1 ++ dktX11_twists_2
def dkwX11_twists_0 : List UInt8 := [42, 42, 180, 0, 9, 188, 11, 182, 0, 86, 76, 43, 182, 0, 90, 61, 28, 188, 11, 78, 3, 54, 4]
abbrev dktX11_twists_0 : List UInt8 := dkwX11_twists_0 ++ dktX11_twists_1
theorem dksX11_twists_0 : cX11_twists.data.toList.drop 0 = dktX11_twists_0 := by decide +kernel
theorem dksX11_twists_1 : cX11_twists.data.toList.drop 23 = dktX11_twists_1 := dk_seg dksX11_twists_0 23 rfl rfl
theorem dksX11_twists_2 : cX11_twists.data.toList.drop 46 = dktX11_twists_2 := dk_seg dksX11_twists_1 23 rfl rfl
theorem dksX11_twists_3 : cX11_twists.data.toList.drop 70 = dktX11_twists_3 := dk_seg dksX11_twists_2 24 rfl rfl
theorem dksX11_twists_4 : cX11_twists.data.toList.drop 93 = dktX11_twists_4 := dk_seg dksX11_twists_3 23 rfl rfl
theorem dksX11_twists_5 : cX11_twists.data.toList.drop 117 = dktX11_twists_5 := dk_seg dksX11_twists_4 24 rfl rfl
theorem dX11_twists_0 : decode cX11_twists 0 = .ok (.aload_n 0, 1) := dk_42 (dk_at dksX11_twists_0 0 rfl rfl)
theorem dX11_twists_1 : decode cX11_twists 1 = .ok (.aload_n 0, 1) := dk_42 (dk_at dksX11_twists_0 1 rfl rfl)
theorem dX11_twists_2 : decode cX11_twists 2 = .ok (.getfield 9, 3) := dk_180 0 9 (dk_at dksX11_twists_0 2 rfl rfl)
theorem dX11_twists_5 : decode cX11_twists 5 = .ok (.newarray .long, 2) := dk_188_11 (dk_at dksX11_twists_0 5 rfl rfl)
theorem dX11_twists_7 : decode cX11_twists 7 = .ok (.invokevirtual 86, 3) := dk_182 0 86 (dk_at dksX11_twists_0 7 rfl rfl)
theorem dX11_twists_10 : decode cX11_twists 10 = .ok (.astore_n 1, 1) := dk_76 (dk_at dksX11_twists_0 10 rfl rfl)
theorem dX11_twists_11 : decode cX11_twists 11 = .ok (.aload_n 1, 1) := dk_43 (dk_at dksX11_twists_0 11 rfl rfl)
theorem dX11_twists_12 : decode cX11_twists 12 = .ok (.invokevirtual 90, 3) := dk_182 0 90 (dk_at dksX11_twists_0 12 rfl rfl)
theorem dX11_twists_15 : decode cX11_twists 15 = .ok (.istore_n 2, 1) := dk_61 (dk_at dksX11_twists_0 15 rfl rfl)
theorem dX11_twists_16 : decode cX11_twists 16 = .ok (.iload_n 2, 1) := dk_28 (dk_at dksX11_twists_0 16 rfl rfl)
theorem dX11_twists_17 : decode cX11_twists 17 = .ok (.newarray .long, 2) := dk_188_11 (dk_at dksX11_twists_0 17 rfl rfl)
theorem dX11_twists_19 : decode cX11_twists 19 = .ok (.astore_n 3, 1) := dk_78 (dk_at dksX11_twists_0 19 rfl rfl)
theorem dX11_twists_20 : decode cX11_twists 20 = .ok (.iconst 0, 1) := dk_3 (dk_at dksX11_twists_0 20 rfl rfl)
theorem dX11_twists_21 : decode cX11_twists 21 = .ok (.istore 4, 2) := dk_54 4 (dk_at dksX11_twists_0 21 rfl rfl)
theorem dX11_twists_23 : decode cX11_twists 23 = .ok (.iload 4, 2) := dk_21 4 (dk_at dksX11_twists_1 0 rfl rfl)
theorem dX11_twists_25 : decode cX11_twists 25 = .ok (.iload_n 2, 1) := dk_28 (dk_at dksX11_twists_1 2 rfl rfl)
theorem dX11_twists_26 : decode cX11_twists 26 = .ok (.if_icmp .ge 26, 3) := dk_162 0 26 (dk_at dksX11_twists_1 3 rfl rfl)
theorem dX11_twists_29 : decode cX11_twists 29 = .ok (.aload_n 3, 1) := dk_45 (dk_at dksX11_twists_1 6 rfl rfl)
theorem dX11_twists_30 : decode cX11_twists 30 = .ok (.iload 4, 2) := dk_21 4 (dk_at dksX11_twists_1 7 rfl rfl)
theorem dX11_twists_32 : decode cX11_twists 32 = .ok (.aload_n 1, 1) := dk_43 (dk_at dksX11_twists_1 9 rfl rfl)
theorem dX11_twists_33 : decode cX11_twists 33 = .ok (.getfield 20, 3) := dk_180 0 20 (dk_at dksX11_twists_1 10 rfl rfl)
theorem dX11_twists_36 : decode cX11_twists 36 = .ok (.iload 4, 2) := dk_21 4 (dk_at dksX11_twists_1 13 rfl rfl)
theorem dX11_twists_38 : decode cX11_twists 38 = .ok (.aaload, 1) := dk_50 (dk_at dksX11_twists_1 15 rfl rfl)
theorem dX11_twists_39 : decode cX11_twists 39 = .ok (.iload 4, 2) := dk_21 4 (dk_at dksX11_twists_1 16 rfl rfl)
theorem dX11_twists_41 : decode cX11_twists 41 = .ok (.laload, 1) := dk_47 (dk_at dksX11_twists_1 18 rfl rfl)
theorem dX11_twists_42 : decode cX11_twists 42 = .ok (.invokestatic 64, 3) := dk_184 0 64 (dk_at dksX11_twists_1 19 rfl rfl)
theorem dX11_twists_45 : decode cX11_twists 45 = .ok (.lastore, 1) := dk_80 (dk_at dksX11_twists_1 22 rfl rfl)
theorem dX11_twists_46 : decode cX11_twists 46 = .ok (.iinc 4 1, 3) := dk_132 4 1 (dk_at dksX11_twists_2 0 rfl rfl)
theorem dX11_twists_49 : decode cX11_twists 49 = .ok (.goto (-26), 3) := dk_167 255 230 (dk_at dksX11_twists_2 3 rfl rfl)
theorem dX11_twists_52 : decode cX11_twists 52 = .ok (.iconst 0, 1) := dk_3 (dk_at dksX11_twists_2 6 rfl rfl)
theorem dX11_twists_53 : decode cX11_twists 53 = .ok (.istore 4, 2) := dk_54 4 (dk_at dksX11_twists_2 7 rfl rfl)
theorem dX11_twists_55 : decode cX11_twists 55 = .ok (.iload 4, 2) := dk_21 4 (dk_at dksX11_twists_2 9 rfl rfl)
theorem dX11_twists_57 : decode cX11_twists 57 = .ok (.iload_n 2, 1) := dk_28 (dk_at dksX11_twists_2 11 rfl rfl)
theorem dX11_twists_58 : decode cX11_twists 58 = .ok (.if_icmp .ge 62, 3) := dk_162 0 62 (dk_at dksX11_twists_2 12 rfl rfl)
theorem dX11_twists_61 : decode cX11_twists 61 = .ok (.iload 4, 2) := dk_21 4 (dk_at dksX11_twists_2 15 rfl rfl)
theorem dX11_twists_63 : decode cX11_twists 63 = .ok (.iconst 1, 1) := dk_4 (dk_at dksX11_twists_2 17 rfl rfl)
theorem dX11_twists_64 : decode cX11_twists 64 = .ok (.iadd, 1) := dk_96 (dk_at dksX11_twists_2 18 rfl rfl)
theorem dX11_twists_65 : decode cX11_twists 65 = .ok (.istore 5, 2) := dk_54 5 (dk_at dksX11_twists_2 19 rfl rfl)
theorem dX11_twists_67 : decode cX11_twists 67 = .ok (.iload 5, 2) := dk_21 5 (dk_at dksX11_twists_2 21 rfl rfl)
theorem dX11_twists_69 : decode cX11_twists 69 = .ok (.iload_n 2, 1) := dk_28 (dk_at dksX11_twists_2 23 rfl rfl)
theorem dX11_twists_70 : decode cX11_twists 70 = .ok (.if_icmp .ge 44, 3) := dk_162 0 44 (dk_at dksX11_twists_3 0 rfl rfl)
theorem dX11_twists_73 : decode cX11_twists 73 = .ok (.aload_n 3, 1) := dk_45 (dk_at dksX11_twists_3 3 rfl rfl)
theorem dX11_twists_74 : decode cX11_twists 74 = .ok (.iload 4, 2) := dk_21 4 (dk_at dksX11_twists_3 4 rfl rfl)
theorem dX11_twists_76 : decode cX11_twists 76 = .ok (.laload, 1) := dk_47 (dk_at dksX11_twists_3 6 rfl rfl)
theorem dX11_twists_77 : decode cX11_twists 77 = .ok (.aload_n 3, 1) := dk_45 (dk_at dksX11_twists_3 7 rfl rfl)
theorem dX11_twists_78 : decode cX11_twists 78 = .ok (.iload 5, 2) := dk_21 5 (dk_at dksX11_twists_3 8 rfl rfl)
theorem dX11_twists_80 : decode cX11_twists 80 = .ok (.laload, 1) := dk_47 (dk_at dksX11_twists_3 10 rfl rfl)
theorem dX11_twists_81 : decode cX11_twists 81 = .ok (.invokestatic 94, 3) := dk_184 0 94 (dk_at dksX11_twists_3 11 rfl rfl)
theorem dX11_twists_84 : decode cX11_twists 84 = .ok (.lstore 6, 2) := dk_55 6 (dk_at dksX11_twists_3 14 rfl rfl)
theorem dX11_twists_86 : decode cX11_twists 86 = .ok (.aload_n 3, 1) := dk_45 (dk_at dksX11_twists_3 16 rfl rfl)
theorem dX11_twists_87 : decode cX11_twists 87 = .ok (.iload 5, 2) := dk_21 5 (dk_at dksX11_twists_3 17 rfl rfl)
theorem dX11_twists_89 : decode cX11_twists 89 = .ok (.aload_n 3, 1) := dk_45 (dk_at dksX11_twists_3 19 rfl rfl)
theorem dX11_twists_90 : decode cX11_twists 90 = .ok (.iload 4, 2) := dk_21 4 (dk_at dksX11_twists_3 20 rfl rfl)
theorem dX11_twists_92 : decode cX11_twists 92 = .ok (.laload, 1) := dk_47 (dk_at dksX11_twists_3 22 rfl rfl)
theorem dX11_twists_93 : decode cX11_twists 93 = .ok (.lload 6, 2) := dk_22 6 (dk_at dksX11_twists_4 0 rfl rfl)
theorem dX11_twists_95 : decode cX11_twists 95 = .ok (.ldiv, 1) := dk_109 (dk_at dksX11_twists_4 2 rfl rfl)
theorem dX11_twists_96 : decode cX11_twists 96 = .ok (.aload_n 3, 1) := dk_45 (dk_at dksX11_twists_4 3 rfl rfl)
theorem dX11_twists_97 : decode cX11_twists 97 = .ok (.iload 5, 2) := dk_21 5 (dk_at dksX11_twists_4 4 rfl rfl)
theorem dX11_twists_99 : decode cX11_twists 99 = .ok (.laload, 1) := dk_47 (dk_at dksX11_twists_4 6 rfl rfl)
theorem dX11_twists_100 : decode cX11_twists 100 = .ok (.lmul, 1) := dk_105 (dk_at dksX11_twists_4 7 rfl rfl)
theorem dX11_twists_101 : decode cX11_twists 101 = .ok (.lastore, 1) := dk_80 (dk_at dksX11_twists_4 8 rfl rfl)
theorem dX11_twists_102 : decode cX11_twists 102 = .ok (.aload_n 3, 1) := dk_45 (dk_at dksX11_twists_4 9 rfl rfl)
theorem dX11_twists_103 : decode cX11_twists 103 = .ok (.iload 4, 2) := dk_21 4 (dk_at dksX11_twists_4 10 rfl rfl)
theorem dX11_twists_105 : decode cX11_twists 105 = .ok (.lload 6, 2) := dk_22 6 (dk_at dksX11_twists_4 12 rfl rfl)
theorem dX11_twists_107 : decode cX11_twists 107 = .ok (.lastore, 1) := dk_80 (dk_at dksX11_twists_4 14 rfl rfl)
theorem dX11_twists_108 : decode cX11_twists 108 = .ok (.iinc 5 1, 3) := dk_132 5 1 (dk_at dksX11_twists_4 15 rfl rfl)
theorem dX11_twists_111 : decode cX11_twists 111 = .ok (.goto (-44), 3) := dk_167 255 212 (dk_at dksX11_twists_4 18 rfl rfl)
theorem dX11_twists_114 : decode cX11_twists 114 = .ok (.iinc 4 1, 3) := dk_132 4 1 (dk_at dksX11_twists_4 21 rfl rfl)
theorem dX11_twists_117 : decode cX11_twists 117 = .ok (.goto (-62), 3) := dk_167 255 194 (dk_at dksX11_twists_5 0 rfl rfl)
theorem dX11_twists_120 : decode cX11_twists 120 = .ok (.aload_n 3, 1) := dk_45 (dk_at dksX11_twists_5 3 rfl rfl)
theorem dX11_twists_121 : decode cX11_twists 121 = .ok (.areturn, 1) := dk_176 (dk_at dksX11_twists_5 4 rfl rfl)
abbrev cX11_determinant : ByteArray := prog_12_method_10_code
def yX11_determinant : MethodName := ⟨RX11, "determinant", "()J"⟩
def dkwX11_determinant_9 : List UInt8 := [22, 4, 43, 180, 0, 20, 42, 180, 0, 9, 4, 100, 50, 42, 180, 0, 9, 4, 100, 47, 105, 173]
abbrev dktX11_determinant_9 : List UInt8 := dkwX11_determinant_9 ++ []
def dkwX11_determinant_8 : List UInt8 := [21, 6, 50, 21, 6, 47, 65, 132, 6, 1, 167, 255, 69, 42, 180, 0, 9, 154, 0, 7, 10, 167, 0, 24]
abbrev dktX11_determinant_8 : List UInt8 := dkwX11_determinant_8 ++ dktX11_determinant_9
def dkwX11_determinant_7 : List UInt8 := [21, 9, 47, 105, 101, 32, 109, 80, 132, 9, 1, 167, 255, 189, 132, 8, 1, 167, 255, 168, 43, 180, 0, 20]
abbrev dktX11_determinant_7 : List UInt8 := dkwX11_determinant_7 ++ dktX11_determinant_8
def dkwX11_determinant_6 : List UInt8 := [21, 6, 50, 21, 6, 47, 105, 43, 180, 0, 20, 21, 8, 50, 21, 6, 47, 43, 180, 0, 20, 21, 6, 50]
abbrev dktX11_determinant_6 : List UInt8 := dkwX11_determinant_6 ++ dktX11_determinant_7
def dkwX11_determinant_5 : List UInt8 := [43, 180, 0, 20, 21, 8, 50, 21, 9, 43, 180, 0, 20, 21, 8, 50, 21, 9, 47, 43, 180, 0, 20]
abbrev dktX11_determinant_5 : List UInt8 := dkwX11_determinant_5 ++ dktX11_determinant_6
def dkwX11_determinant_4 : List UInt8 := [21, 8, 42, 180, 0, 9, 162, 0, 85, 21, 6, 4, 96, 54, 9, 21, 9, 42, 180, 0, 9, 162, 0, 64]
abbrev dktX11_determinant_4 : List UInt8 := dkwX11_determinant_4 ++ dktX11_determinant_5
def dkwX11_determinant_3 : List UInt8 := [21, 6, 159, 0, 16, 43, 21, 7, 21, 6, 182, 0, 53, 22, 4, 117, 55, 4, 21, 6, 4, 96, 54, 8]
abbrev dktX11_determinant_3 : List UInt8 := dkwX11_determinant_3 ++ dktX11_determinant_4
def dkwX11_determinant_2 : List UInt8 := [148, 154, 0, 9, 132, 7, 1, 167, 255, 229, 21, 7, 42, 180, 0, 9, 160, 0, 5, 9, 173, 21, 7]
abbrev dktX11_determinant_2 : List UInt8 := dkwX11_determinant_2 ++ dktX11_determinant_3
def dkwX11_determinant_1 : List UInt8 := [21, 6, 54, 7, 21, 7, 42, 180, 0, 9, 162, 0, 24, 43, 180, 0, 20, 21, 7, 50, 21, 6, 47, 9]
abbrev dktX11_determinant_1 : List UInt8 := dkwX11_determinant_1 ++ dktX11_determinant_2
def dkwX11_determinant_0 : List UInt8 := [42, 182, 0, 32, 76, 10, 65, 10, 55, 4, 3, 54, 6, 21, 6, 4, 96, 42, 180, 0, 9, 162, 0, 182]
abbrev dktX11_determinant_0 : List UInt8 := dkwX11_determinant_0 ++ dktX11_determinant_1
theorem dksX11_determinant_0 : cX11_determinant.data.toList.drop 0 = dktX11_determinant_0 := by decide +kernel
theorem dksX11_determinant_1 : cX11_determinant.data.toList.drop 24 = dktX11_determinant_1 := dk_seg dksX11_determinant_0 24 rfl rfl
theorem dksX11_determinant_2 : cX11_determinant.data.toList.drop 48 = dktX11_determinant_2 := dk_seg dksX11_determinant_1 24 rfl rfl
theorem dksX11_determinant_3 : cX11_determinant.data.toList.drop 71 = dktX11_determinant_3 := dk_seg dksX11_determinant_2 23 rfl rfl
theorem dksX11_determinant_4 : cX11_determinant.data.toList.drop 95 = dktX11_determinant_4 := dk_seg dksX11_determinant_3 24 rfl rfl
theorem dksX11_determinant_5 : cX11_determinant.data.toList.drop 119 = dktX11_determinant_5 := dk_seg dksX11_determinant_4 24 rfl rfl
theorem dksX11_determinant_6 : cX11_determinant.data.toList.drop 142 = dktX11_determinant_6 := dk_seg dksX11_determinant_5 23 rfl rfl
theorem dksX11_determinant_7 : cX11_determinant.data.toList.drop 166 = dktX11_determinant_7 := dk_seg dksX11_determinant_6 24 rfl rfl
theorem dksX11_determinant_8 : cX11_determinant.data.toList.drop 190 = dktX11_determinant_8 := dk_seg dksX11_determinant_7 24 rfl rfl
theorem dksX11_determinant_9 : cX11_determinant.data.toList.drop 214 = dktX11_determinant_9 := dk_seg dksX11_determinant_8 24 rfl rfl
theorem dX11_determinant_0 : decode cX11_determinant 0 = .ok (.aload_n 0, 1) := dk_42 (dk_at dksX11_determinant_0 0 rfl rfl)
theorem dX11_determinant_1 : decode cX11_determinant 1 = .ok (.invokevirtual 32, 3) := dk_182 0 32 (dk_at dksX11_determinant_0 1 rfl rfl)
theorem dX11_determinant_4 : decode cX11_determinant 4 = .ok (.astore_n 1, 1) := dk_76 (dk_at dksX11_determinant_0 4 rfl rfl)
theorem dX11_determinant_5 : decode cX11_determinant 5 = .ok (.lconst 1, 1) := dk_10 (dk_at dksX11_determinant_0 5 rfl rfl)
theorem dX11_determinant_6 : decode cX11_determinant 6 = .ok (.lstore_n 2, 1) := dk_65 (dk_at dksX11_determinant_0 6 rfl rfl)
theorem dX11_determinant_7 : decode cX11_determinant 7 = .ok (.lconst 1, 1) := dk_10 (dk_at dksX11_determinant_0 7 rfl rfl)
theorem dX11_determinant_8 : decode cX11_determinant 8 = .ok (.lstore 4, 2) := dk_55 4 (dk_at dksX11_determinant_0 8 rfl rfl)
theorem dX11_determinant_10 : decode cX11_determinant 10 = .ok (.iconst 0, 1) := dk_3 (dk_at dksX11_determinant_0 10 rfl rfl)
theorem dX11_determinant_11 : decode cX11_determinant 11 = .ok (.istore 6, 2) := dk_54 6 (dk_at dksX11_determinant_0 11 rfl rfl)
theorem dX11_determinant_13 : decode cX11_determinant 13 = .ok (.iload 6, 2) := dk_21 6 (dk_at dksX11_determinant_0 13 rfl rfl)
theorem dX11_determinant_15 : decode cX11_determinant 15 = .ok (.iconst 1, 1) := dk_4 (dk_at dksX11_determinant_0 15 rfl rfl)
theorem dX11_determinant_16 : decode cX11_determinant 16 = .ok (.iadd, 1) := dk_96 (dk_at dksX11_determinant_0 16 rfl rfl)
theorem dX11_determinant_17 : decode cX11_determinant 17 = .ok (.aload_n 0, 1) := dk_42 (dk_at dksX11_determinant_0 17 rfl rfl)
theorem dX11_determinant_18 : decode cX11_determinant 18 = .ok (.getfield 9, 3) := dk_180 0 9 (dk_at dksX11_determinant_0 18 rfl rfl)
theorem dX11_determinant_21 : decode cX11_determinant 21 = .ok (.if_icmp .ge 182, 3) := dk_162 0 182 (dk_at dksX11_determinant_0 21 rfl rfl)
theorem dX11_determinant_24 : decode cX11_determinant 24 = .ok (.iload 6, 2) := dk_21 6 (dk_at dksX11_determinant_1 0 rfl rfl)
theorem dX11_determinant_26 : decode cX11_determinant 26 = .ok (.istore 7, 2) := dk_54 7 (dk_at dksX11_determinant_1 2 rfl rfl)
theorem dX11_determinant_28 : decode cX11_determinant 28 = .ok (.iload 7, 2) := dk_21 7 (dk_at dksX11_determinant_1 4 rfl rfl)
theorem dX11_determinant_30 : decode cX11_determinant 30 = .ok (.aload_n 0, 1) := dk_42 (dk_at dksX11_determinant_1 6 rfl rfl)
theorem dX11_determinant_31 : decode cX11_determinant 31 = .ok (.getfield 9, 3) := dk_180 0 9 (dk_at dksX11_determinant_1 7 rfl rfl)
theorem dX11_determinant_34 : decode cX11_determinant 34 = .ok (.if_icmp .ge 24, 3) := dk_162 0 24 (dk_at dksX11_determinant_1 10 rfl rfl)
theorem dX11_determinant_37 : decode cX11_determinant 37 = .ok (.aload_n 1, 1) := dk_43 (dk_at dksX11_determinant_1 13 rfl rfl)
theorem dX11_determinant_38 : decode cX11_determinant 38 = .ok (.getfield 20, 3) := dk_180 0 20 (dk_at dksX11_determinant_1 14 rfl rfl)
theorem dX11_determinant_41 : decode cX11_determinant 41 = .ok (.iload 7, 2) := dk_21 7 (dk_at dksX11_determinant_1 17 rfl rfl)
theorem dX11_determinant_43 : decode cX11_determinant 43 = .ok (.aaload, 1) := dk_50 (dk_at dksX11_determinant_1 19 rfl rfl)
theorem dX11_determinant_44 : decode cX11_determinant 44 = .ok (.iload 6, 2) := dk_21 6 (dk_at dksX11_determinant_1 20 rfl rfl)
theorem dX11_determinant_46 : decode cX11_determinant 46 = .ok (.laload, 1) := dk_47 (dk_at dksX11_determinant_1 22 rfl rfl)
theorem dX11_determinant_47 : decode cX11_determinant 47 = .ok (.lconst 0, 1) := dk_9 (dk_at dksX11_determinant_1 23 rfl rfl)
theorem dX11_determinant_48 : decode cX11_determinant 48 = .ok (.lcmp, 1) := dk_148 (dk_at dksX11_determinant_2 0 rfl rfl)
theorem dX11_determinant_49 : decode cX11_determinant 49 = .ok (.ifCond .ne 9, 3) := dk_154 0 9 (dk_at dksX11_determinant_2 1 rfl rfl)
theorem dX11_determinant_52 : decode cX11_determinant 52 = .ok (.iinc 7 1, 3) := dk_132 7 1 (dk_at dksX11_determinant_2 4 rfl rfl)
theorem dX11_determinant_55 : decode cX11_determinant 55 = .ok (.goto (-27), 3) := dk_167 255 229 (dk_at dksX11_determinant_2 7 rfl rfl)
theorem dX11_determinant_58 : decode cX11_determinant 58 = .ok (.iload 7, 2) := dk_21 7 (dk_at dksX11_determinant_2 10 rfl rfl)
theorem dX11_determinant_60 : decode cX11_determinant 60 = .ok (.aload_n 0, 1) := dk_42 (dk_at dksX11_determinant_2 12 rfl rfl)
theorem dX11_determinant_61 : decode cX11_determinant 61 = .ok (.getfield 9, 3) := dk_180 0 9 (dk_at dksX11_determinant_2 13 rfl rfl)
theorem dX11_determinant_64 : decode cX11_determinant 64 = .ok (.if_icmp .ne 5, 3) := dk_160 0 5 (dk_at dksX11_determinant_2 16 rfl rfl)
theorem dX11_determinant_67 : decode cX11_determinant 67 = .ok (.lconst 0, 1) := dk_9 (dk_at dksX11_determinant_2 19 rfl rfl)
theorem dX11_determinant_68 : decode cX11_determinant 68 = .ok (.lreturn, 1) := dk_173 (dk_at dksX11_determinant_2 20 rfl rfl)
theorem dX11_determinant_69 : decode cX11_determinant 69 = .ok (.iload 7, 2) := dk_21 7 (dk_at dksX11_determinant_2 21 rfl rfl)
theorem dX11_determinant_71 : decode cX11_determinant 71 = .ok (.iload 6, 2) := dk_21 6 (dk_at dksX11_determinant_3 0 rfl rfl)
theorem dX11_determinant_73 : decode cX11_determinant 73 = .ok (.if_icmp .eq 16, 3) := dk_159 0 16 (dk_at dksX11_determinant_3 2 rfl rfl)
theorem dX11_determinant_76 : decode cX11_determinant 76 = .ok (.aload_n 1, 1) := dk_43 (dk_at dksX11_determinant_3 5 rfl rfl)
theorem dX11_determinant_77 : decode cX11_determinant 77 = .ok (.iload 7, 2) := dk_21 7 (dk_at dksX11_determinant_3 6 rfl rfl)
theorem dX11_determinant_79 : decode cX11_determinant 79 = .ok (.iload 6, 2) := dk_21 6 (dk_at dksX11_determinant_3 8 rfl rfl)
theorem dX11_determinant_81 : decode cX11_determinant 81 = .ok (.invokevirtual 53, 3) := dk_182 0 53 (dk_at dksX11_determinant_3 10 rfl rfl)
theorem dX11_determinant_84 : decode cX11_determinant 84 = .ok (.lload 4, 2) := dk_22 4 (dk_at dksX11_determinant_3 13 rfl rfl)
theorem dX11_determinant_86 : decode cX11_determinant 86 = .ok (.lneg, 1) := dk_117 (dk_at dksX11_determinant_3 15 rfl rfl)
theorem dX11_determinant_87 : decode cX11_determinant 87 = .ok (.lstore 4, 2) := dk_55 4 (dk_at dksX11_determinant_3 16 rfl rfl)
theorem dX11_determinant_89 : decode cX11_determinant 89 = .ok (.iload 6, 2) := dk_21 6 (dk_at dksX11_determinant_3 18 rfl rfl)
theorem dX11_determinant_91 : decode cX11_determinant 91 = .ok (.iconst 1, 1) := dk_4 (dk_at dksX11_determinant_3 20 rfl rfl)
theorem dX11_determinant_92 : decode cX11_determinant 92 = .ok (.iadd, 1) := dk_96 (dk_at dksX11_determinant_3 21 rfl rfl)
theorem dX11_determinant_93 : decode cX11_determinant 93 = .ok (.istore 8, 2) := dk_54 8 (dk_at dksX11_determinant_3 22 rfl rfl)
theorem dX11_determinant_95 : decode cX11_determinant 95 = .ok (.iload 8, 2) := dk_21 8 (dk_at dksX11_determinant_4 0 rfl rfl)
theorem dX11_determinant_97 : decode cX11_determinant 97 = .ok (.aload_n 0, 1) := dk_42 (dk_at dksX11_determinant_4 2 rfl rfl)
theorem dX11_determinant_98 : decode cX11_determinant 98 = .ok (.getfield 9, 3) := dk_180 0 9 (dk_at dksX11_determinant_4 3 rfl rfl)
theorem dX11_determinant_101 : decode cX11_determinant 101 = .ok (.if_icmp .ge 85, 3) := dk_162 0 85 (dk_at dksX11_determinant_4 6 rfl rfl)
theorem dX11_determinant_104 : decode cX11_determinant 104 = .ok (.iload 6, 2) := dk_21 6 (dk_at dksX11_determinant_4 9 rfl rfl)
theorem dX11_determinant_106 : decode cX11_determinant 106 = .ok (.iconst 1, 1) := dk_4 (dk_at dksX11_determinant_4 11 rfl rfl)
theorem dX11_determinant_107 : decode cX11_determinant 107 = .ok (.iadd, 1) := dk_96 (dk_at dksX11_determinant_4 12 rfl rfl)
theorem dX11_determinant_108 : decode cX11_determinant 108 = .ok (.istore 9, 2) := dk_54 9 (dk_at dksX11_determinant_4 13 rfl rfl)
theorem dX11_determinant_110 : decode cX11_determinant 110 = .ok (.iload 9, 2) := dk_21 9 (dk_at dksX11_determinant_4 15 rfl rfl)
theorem dX11_determinant_112 : decode cX11_determinant 112 = .ok (.aload_n 0, 1) := dk_42 (dk_at dksX11_determinant_4 17 rfl rfl)
theorem dX11_determinant_113 : decode cX11_determinant 113 = .ok (.getfield 9, 3) := dk_180 0 9 (dk_at dksX11_determinant_4 18 rfl rfl)
theorem dX11_determinant_116 : decode cX11_determinant 116 = .ok (.if_icmp .ge 64, 3) := dk_162 0 64 (dk_at dksX11_determinant_4 21 rfl rfl)
theorem dX11_determinant_119 : decode cX11_determinant 119 = .ok (.aload_n 1, 1) := dk_43 (dk_at dksX11_determinant_5 0 rfl rfl)
theorem dX11_determinant_120 : decode cX11_determinant 120 = .ok (.getfield 20, 3) := dk_180 0 20 (dk_at dksX11_determinant_5 1 rfl rfl)
theorem dX11_determinant_123 : decode cX11_determinant 123 = .ok (.iload 8, 2) := dk_21 8 (dk_at dksX11_determinant_5 4 rfl rfl)
theorem dX11_determinant_125 : decode cX11_determinant 125 = .ok (.aaload, 1) := dk_50 (dk_at dksX11_determinant_5 6 rfl rfl)
theorem dX11_determinant_126 : decode cX11_determinant 126 = .ok (.iload 9, 2) := dk_21 9 (dk_at dksX11_determinant_5 7 rfl rfl)
theorem dX11_determinant_128 : decode cX11_determinant 128 = .ok (.aload_n 1, 1) := dk_43 (dk_at dksX11_determinant_5 9 rfl rfl)
theorem dX11_determinant_129 : decode cX11_determinant 129 = .ok (.getfield 20, 3) := dk_180 0 20 (dk_at dksX11_determinant_5 10 rfl rfl)
theorem dX11_determinant_132 : decode cX11_determinant 132 = .ok (.iload 8, 2) := dk_21 8 (dk_at dksX11_determinant_5 13 rfl rfl)
theorem dX11_determinant_134 : decode cX11_determinant 134 = .ok (.aaload, 1) := dk_50 (dk_at dksX11_determinant_5 15 rfl rfl)
theorem dX11_determinant_135 : decode cX11_determinant 135 = .ok (.iload 9, 2) := dk_21 9 (dk_at dksX11_determinant_5 16 rfl rfl)
theorem dX11_determinant_137 : decode cX11_determinant 137 = .ok (.laload, 1) := dk_47 (dk_at dksX11_determinant_5 18 rfl rfl)
theorem dX11_determinant_138 : decode cX11_determinant 138 = .ok (.aload_n 1, 1) := dk_43 (dk_at dksX11_determinant_5 19 rfl rfl)
theorem dX11_determinant_139 : decode cX11_determinant 139 = .ok (.getfield 20, 3) := dk_180 0 20 (dk_at dksX11_determinant_5 20 rfl rfl)
theorem dX11_determinant_142 : decode cX11_determinant 142 = .ok (.iload 6, 2) := dk_21 6 (dk_at dksX11_determinant_6 0 rfl rfl)
theorem dX11_determinant_144 : decode cX11_determinant 144 = .ok (.aaload, 1) := dk_50 (dk_at dksX11_determinant_6 2 rfl rfl)
theorem dX11_determinant_145 : decode cX11_determinant 145 = .ok (.iload 6, 2) := dk_21 6 (dk_at dksX11_determinant_6 3 rfl rfl)
theorem dX11_determinant_147 : decode cX11_determinant 147 = .ok (.laload, 1) := dk_47 (dk_at dksX11_determinant_6 5 rfl rfl)
theorem dX11_determinant_148 : decode cX11_determinant 148 = .ok (.lmul, 1) := dk_105 (dk_at dksX11_determinant_6 6 rfl rfl)
theorem dX11_determinant_149 : decode cX11_determinant 149 = .ok (.aload_n 1, 1) := dk_43 (dk_at dksX11_determinant_6 7 rfl rfl)
theorem dX11_determinant_150 : decode cX11_determinant 150 = .ok (.getfield 20, 3) := dk_180 0 20 (dk_at dksX11_determinant_6 8 rfl rfl)
theorem dX11_determinant_153 : decode cX11_determinant 153 = .ok (.iload 8, 2) := dk_21 8 (dk_at dksX11_determinant_6 11 rfl rfl)
theorem dX11_determinant_155 : decode cX11_determinant 155 = .ok (.aaload, 1) := dk_50 (dk_at dksX11_determinant_6 13 rfl rfl)
theorem dX11_determinant_156 : decode cX11_determinant 156 = .ok (.iload 6, 2) := dk_21 6 (dk_at dksX11_determinant_6 14 rfl rfl)
theorem dX11_determinant_158 : decode cX11_determinant 158 = .ok (.laload, 1) := dk_47 (dk_at dksX11_determinant_6 16 rfl rfl)
theorem dX11_determinant_159 : decode cX11_determinant 159 = .ok (.aload_n 1, 1) := dk_43 (dk_at dksX11_determinant_6 17 rfl rfl)
theorem dX11_determinant_160 : decode cX11_determinant 160 = .ok (.getfield 20, 3) := dk_180 0 20 (dk_at dksX11_determinant_6 18 rfl rfl)
theorem dX11_determinant_163 : decode cX11_determinant 163 = .ok (.iload 6, 2) := dk_21 6 (dk_at dksX11_determinant_6 21 rfl rfl)
theorem dX11_determinant_165 : decode cX11_determinant 165 = .ok (.aaload, 1) := dk_50 (dk_at dksX11_determinant_6 23 rfl rfl)
theorem dX11_determinant_166 : decode cX11_determinant 166 = .ok (.iload 9, 2) := dk_21 9 (dk_at dksX11_determinant_7 0 rfl rfl)
theorem dX11_determinant_168 : decode cX11_determinant 168 = .ok (.laload, 1) := dk_47 (dk_at dksX11_determinant_7 2 rfl rfl)
theorem dX11_determinant_169 : decode cX11_determinant 169 = .ok (.lmul, 1) := dk_105 (dk_at dksX11_determinant_7 3 rfl rfl)
theorem dX11_determinant_170 : decode cX11_determinant 170 = .ok (.lsub, 1) := dk_101 (dk_at dksX11_determinant_7 4 rfl rfl)
theorem dX11_determinant_171 : decode cX11_determinant 171 = .ok (.lload_n 2, 1) := dk_32 (dk_at dksX11_determinant_7 5 rfl rfl)
theorem dX11_determinant_172 : decode cX11_determinant 172 = .ok (.ldiv, 1) := dk_109 (dk_at dksX11_determinant_7 6 rfl rfl)
theorem dX11_determinant_173 : decode cX11_determinant 173 = .ok (.lastore, 1) := dk_80 (dk_at dksX11_determinant_7 7 rfl rfl)
theorem dX11_determinant_174 : decode cX11_determinant 174 = .ok (.iinc 9 1, 3) := dk_132 9 1 (dk_at dksX11_determinant_7 8 rfl rfl)
theorem dX11_determinant_177 : decode cX11_determinant 177 = .ok (.goto (-67), 3) := dk_167 255 189 (dk_at dksX11_determinant_7 11 rfl rfl)
theorem dX11_determinant_180 : decode cX11_determinant 180 = .ok (.iinc 8 1, 3) := dk_132 8 1 (dk_at dksX11_determinant_7 14 rfl rfl)
theorem dX11_determinant_183 : decode cX11_determinant 183 = .ok (.goto (-88), 3) := dk_167 255 168 (dk_at dksX11_determinant_7 17 rfl rfl)
theorem dX11_determinant_186 : decode cX11_determinant 186 = .ok (.aload_n 1, 1) := dk_43 (dk_at dksX11_determinant_7 20 rfl rfl)
theorem dX11_determinant_187 : decode cX11_determinant 187 = .ok (.getfield 20, 3) := dk_180 0 20 (dk_at dksX11_determinant_7 21 rfl rfl)
theorem dX11_determinant_190 : decode cX11_determinant 190 = .ok (.iload 6, 2) := dk_21 6 (dk_at dksX11_determinant_8 0 rfl rfl)
theorem dX11_determinant_192 : decode cX11_determinant 192 = .ok (.aaload, 1) := dk_50 (dk_at dksX11_determinant_8 2 rfl rfl)
theorem dX11_determinant_193 : decode cX11_determinant 193 = .ok (.iload 6, 2) := dk_21 6 (dk_at dksX11_determinant_8 3 rfl rfl)
theorem dX11_determinant_195 : decode cX11_determinant 195 = .ok (.laload, 1) := dk_47 (dk_at dksX11_determinant_8 5 rfl rfl)
theorem dX11_determinant_196 : decode cX11_determinant 196 = .ok (.lstore_n 2, 1) := dk_65 (dk_at dksX11_determinant_8 6 rfl rfl)
theorem dX11_determinant_197 : decode cX11_determinant 197 = .ok (.iinc 6 1, 3) := dk_132 6 1 (dk_at dksX11_determinant_8 7 rfl rfl)
theorem dX11_determinant_200 : decode cX11_determinant 200 = .ok (.goto (-187), 3) := dk_167 255 69 (dk_at dksX11_determinant_8 10 rfl rfl)
theorem dX11_determinant_203 : decode cX11_determinant 203 = .ok (.aload_n 0, 1) := dk_42 (dk_at dksX11_determinant_8 13 rfl rfl)
theorem dX11_determinant_204 : decode cX11_determinant 204 = .ok (.getfield 9, 3) := dk_180 0 9 (dk_at dksX11_determinant_8 14 rfl rfl)
theorem dX11_determinant_207 : decode cX11_determinant 207 = .ok (.ifCond .ne 7, 3) := dk_154 0 7 (dk_at dksX11_determinant_8 17 rfl rfl)
theorem dX11_determinant_210 : decode cX11_determinant 210 = .ok (.lconst 1, 1) := dk_10 (dk_at dksX11_determinant_8 20 rfl rfl)
theorem dX11_determinant_211 : decode cX11_determinant 211 = .ok (.goto 24, 3) := dk_167 0 24 (dk_at dksX11_determinant_8 21 rfl rfl)
theorem dX11_determinant_214 : decode cX11_determinant 214 = .ok (.lload 4, 2) := dk_22 4 (dk_at dksX11_determinant_9 0 rfl rfl)
theorem dX11_determinant_216 : decode cX11_determinant 216 = .ok (.aload_n 1, 1) := dk_43 (dk_at dksX11_determinant_9 2 rfl rfl)
theorem dX11_determinant_217 : decode cX11_determinant 217 = .ok (.getfield 20, 3) := dk_180 0 20 (dk_at dksX11_determinant_9 3 rfl rfl)
theorem dX11_determinant_220 : decode cX11_determinant 220 = .ok (.aload_n 0, 1) := dk_42 (dk_at dksX11_determinant_9 6 rfl rfl)
theorem dX11_determinant_221 : decode cX11_determinant 221 = .ok (.getfield 9, 3) := dk_180 0 9 (dk_at dksX11_determinant_9 7 rfl rfl)
theorem dX11_determinant_224 : decode cX11_determinant 224 = .ok (.iconst 1, 1) := dk_4 (dk_at dksX11_determinant_9 10 rfl rfl)
theorem dX11_determinant_225 : decode cX11_determinant 225 = .ok (.isub, 1) := dk_100 (dk_at dksX11_determinant_9 11 rfl rfl)
theorem dX11_determinant_226 : decode cX11_determinant 226 = .ok (.aaload, 1) := dk_50 (dk_at dksX11_determinant_9 12 rfl rfl)
theorem dX11_determinant_227 : decode cX11_determinant 227 = .ok (.aload_n 0, 1) := dk_42 (dk_at dksX11_determinant_9 13 rfl rfl)
theorem dX11_determinant_228 : decode cX11_determinant 228 = .ok (.getfield 9, 3) := dk_180 0 9 (dk_at dksX11_determinant_9 14 rfl rfl)
theorem dX11_determinant_231 : decode cX11_determinant 231 = .ok (.iconst 1, 1) := dk_4 (dk_at dksX11_determinant_9 17 rfl rfl)
theorem dX11_determinant_232 : decode cX11_determinant 232 = .ok (.isub, 1) := dk_100 (dk_at dksX11_determinant_9 18 rfl rfl)
theorem dX11_determinant_233 : decode cX11_determinant 233 = .ok (.laload, 1) := dk_47 (dk_at dksX11_determinant_9 19 rfl rfl)
theorem dX11_determinant_234 : decode cX11_determinant 234 = .ok (.lmul, 1) := dk_105 (dk_at dksX11_determinant_9 20 rfl rfl)
theorem dX11_determinant_235 : decode cX11_determinant 235 = .ok (.lreturn, 1) := dk_173 (dk_at dksX11_determinant_9 21 rfl rfl)
abbrev cX11_within : ByteArray := prog_12_method_7_code
def yX11_within : MethodName := ⟨RX11, "within", "(I)LChainParts$Table;"⟩
def dkwX11_within_0 : List UInt8 := [42, 27, 182, 0, 46, 182, 0, 50, 27, 182, 0, 46, 182, 0, 50, 176]
abbrev dktX11_within_0 : List UInt8 := dkwX11_within_0 ++ []
theorem dksX11_within_0 : cX11_within.data.toList.drop 0 = dktX11_within_0 := by decide +kernel
theorem dX11_within_0 : decode cX11_within 0 = .ok (.aload_n 0, 1) := dk_42 (dk_at dksX11_within_0 0 rfl rfl)
theorem dX11_within_1 : decode cX11_within 1 = .ok (.iload_n 1, 1) := dk_27 (dk_at dksX11_within_0 1 rfl rfl)
theorem dX11_within_2 : decode cX11_within 2 = .ok (.invokevirtual 46, 3) := dk_182 0 46 (dk_at dksX11_within_0 2 rfl rfl)
theorem dX11_within_5 : decode cX11_within 5 = .ok (.invokevirtual 50, 3) := dk_182 0 50 (dk_at dksX11_within_0 5 rfl rfl)
theorem dX11_within_8 : decode cX11_within 8 = .ok (.iload_n 1, 1) := dk_27 (dk_at dksX11_within_0 8 rfl rfl)
theorem dX11_within_9 : decode cX11_within 9 = .ok (.invokevirtual 46, 3) := dk_182 0 46 (dk_at dksX11_within_0 9 rfl rfl)
theorem dX11_within_12 : decode cX11_within 12 = .ok (.invokevirtual 50, 3) := dk_182 0 50 (dk_at dksX11_within_0 12 rfl rfl)
theorem dX11_within_15 : decode cX11_within 15 = .ok (.areturn, 1) := dk_176 (dk_at dksX11_within_0 15 rfl rfl)
theorem q90 : (Jvm.Cond.initialized "ChainParts$Table") ∈ lw_all := lw_g (lw_at lw_m1 19 rfl) rfl
theorem q616 : (Jvm.Cond.instantiable "ChainParts$Table" (3 : Nat)) ∈ lw_all := lw_g (lw_at lw_m3 65 rfl) rfl
theorem q618 : (Jvm.Cond.instanceMethod ({ cls := "ChainParts$Table", name := "<init>", desc := "(II)V" } : Jvm.MethodName)) ∈ lw_all := lw_g (lw_at lw_m3 67 rfl) rfl
theorem q619 : (Jvm.Cond.code ({ cls := "ChainParts$Table", name := "<init>", desc := "(II)V" } : Jvm.MethodName) prog_12_method_1_code (3 : Nat) (Option.none : Option Jvm.ClassFile.FieldType)) ∈ lw_all := lw_g (lw_at lw_m3 68 rfl) rfl
theorem q620 : (Jvm.Cond.methodLink "ChainParts$Table" (3 : Nat) ({ cls := "java/lang/Object", name := "<init>", desc := "()V" } : Jvm.MethodName)) ∈ lw_all := lw_g (lw_at lw_m3 69 rfl) rfl
theorem q621 : (Jvm.Cond.classLink "ChainParts$Table" (18 : Nat) "[[J") ∈ lw_all := lw_g (lw_at lw_m3 70 rfl) rfl
theorem q623 : (Jvm.Cond.fieldLink "ChainParts$Table" (20 : Nat) "ChainParts$Table" "at" "[[J") ∈ lw_all := lw_g (lw_at lw_m3 72 rfl) rfl
theorem q626 : (Jvm.Cond.fieldLink "ChainParts$Table" (9 : Nat) "ChainParts$Table" "rows" "I") ∈ lw_all := lw_g (lw_at lw_m3 75 rfl) rfl
theorem q628 : (Jvm.Cond.fieldLink "ChainParts$Table" (15 : Nat) "ChainParts$Table" "columns" "I") ∈ lw_all := lw_g (lw_at lw_m3 77 rfl) rfl
theorem q630 : (Jvm.Cond.laysFinal "ChainParts$Table" "ChainParts$Table" "at" "[[J") ∈ lw_all := lw_g (lw_at lw_m3 79 rfl) rfl
theorem q631 : (Jvm.Cond.soleField "ChainParts$Table" "at") ∈ lw_all := lw_g (lw_at lw_m3 80 rfl) rfl
theorem q632 : (Jvm.Cond.laysFinal "ChainParts$Table" "ChainParts$Table" "rows" "I") ∈ lw_all := lw_g (lw_at lw_m3 81 rfl) rfl
theorem q633 : (Jvm.Cond.soleField "ChainParts$Table" "rows") ∈ lw_all := lw_g (lw_at lw_m3 82 rfl) rfl
theorem q634 : (Jvm.Cond.laysFinal "ChainParts$Table" "ChainParts$Table" "columns" "I") ∈ lw_all := lw_g (lw_at lw_m3 83 rfl) rfl
theorem q635 : (Jvm.Cond.soleField "ChainParts$Table" "columns") ∈ lw_all := lw_g (lw_at lw_m3 84 rfl) rfl
theorem q636 : (Jvm.Cond.superclass "ChainParts$Table" "java/lang/Object") ∈ lw_all := lw_g (lw_at lw_m3 85 rfl) rfl
theorem q649 : (Jvm.Cond.instanceMethod ({ cls := "ChainParts$Table", name := "turned", desc := "()LChainParts$Table;" } : Jvm.MethodName)) ∈ lw_all := lw_g (lw_at lw_m3 98 rfl) rfl
theorem q650 : (Jvm.Cond.selects "ChainParts$Table" ({ cls := "ChainParts$Table", name := "turned", desc := "()LChainParts$Table;" } : Jvm.MethodName) ({ cls := "ChainParts$Table", name := "turned", desc := "()LChainParts$Table;" } : Jvm.MethodName)) ∈ lw_all := lw_g (lw_at lw_m3 99 rfl) rfl
theorem q651 : (Jvm.Cond.code ({ cls := "ChainParts$Table", name := "turned", desc := "()LChainParts$Table;" } : Jvm.MethodName) prog_12_method_3_code (4 : Nat) (Option.some (Jvm.ClassFile.FieldType.object "ChainParts$Table"))) ∈ lw_all := lw_g (lw_at lw_m3 100 rfl) rfl
theorem q652 : (Jvm.Cond.classLink "ChainParts$Table" (10 : Nat) "ChainParts$Table") ∈ lw_all := lw_g (lw_at lw_m3 101 rfl) rfl
theorem q653 : (Jvm.Cond.methodLink "ChainParts$Table" (23 : Nat) ({ cls := "ChainParts$Table", name := "<init>", desc := "(II)V" } : Jvm.MethodName)) ∈ lw_all := lw_g (lw_at lw_m3 102 rfl) rfl
theorem q655 : (Jvm.Cond.instanceMethod ({ cls := "ChainParts$Table", name := "times", desc := "(LChainParts$Table;)LChainParts$Table;" } : Jvm.MethodName)) ∈ lw_all := lw_g (lw_at lw_m3 104 rfl) rfl
theorem q656 : (Jvm.Cond.selects "ChainParts$Table" ({ cls := "ChainParts$Table", name := "times", desc := "(LChainParts$Table;)LChainParts$Table;" } : Jvm.MethodName) ({ cls := "ChainParts$Table", name := "times", desc := "(LChainParts$Table;)LChainParts$Table;" } : Jvm.MethodName)) ∈ lw_all := lw_g (lw_at lw_m3 105 rfl) rfl
theorem q657 : (Jvm.Cond.code ({ cls := "ChainParts$Table", name := "times", desc := "(LChainParts$Table;)LChainParts$Table;" } : Jvm.MethodName) prog_12_method_4_code (6 : Nat) (Option.some (Jvm.ClassFile.FieldType.object "ChainParts$Table"))) ∈ lw_all := lw_g (lw_at lw_m3 106 rfl) rfl
theorem q663 : (Jvm.Cond.instanceMethod ({ cls := "ChainParts$Table", name := "weighed", desc := "([I)LChainParts$Table;" } : Jvm.MethodName)) ∈ lw_all := lw_g (lw_at lw_m3 112 rfl) rfl
theorem q664 : (Jvm.Cond.selects "ChainParts$Table" ({ cls := "ChainParts$Table", name := "weighed", desc := "([I)LChainParts$Table;" } : Jvm.MethodName) ({ cls := "ChainParts$Table", name := "weighed", desc := "([I)LChainParts$Table;" } : Jvm.MethodName)) ∈ lw_all := lw_g (lw_at lw_m3 113 rfl) rfl
theorem q665 : (Jvm.Cond.code ({ cls := "ChainParts$Table", name := "weighed", desc := "([I)LChainParts$Table;" } : Jvm.MethodName) prog_12_method_5_code (5 : Nat) (Option.some (Jvm.ClassFile.FieldType.object "ChainParts$Table"))) ∈ lw_all := lw_g (lw_at lw_m3 114 rfl) rfl
theorem q666 : (Jvm.Cond.methodLink "ChainParts$Table" (32 : Nat) ({ cls := "ChainParts$Table", name := "like", desc := "()LChainParts$Table;" } : Jvm.MethodName)) ∈ lw_all := lw_g (lw_at lw_m3 115 rfl) rfl
theorem q667 : (Jvm.Cond.instanceMethod ({ cls := "ChainParts$Table", name := "like", desc := "()LChainParts$Table;" } : Jvm.MethodName)) ∈ lw_all := lw_g (lw_at lw_m3 116 rfl) rfl
theorem q668 : (Jvm.Cond.selects "ChainParts$Table" ({ cls := "ChainParts$Table", name := "like", desc := "()LChainParts$Table;" } : Jvm.MethodName) ({ cls := "ChainParts$Table", name := "like", desc := "()LChainParts$Table;" } : Jvm.MethodName)) ∈ lw_all := lw_g (lw_at lw_m3 117 rfl) rfl
theorem q669 : (Jvm.Cond.code ({ cls := "ChainParts$Table", name := "like", desc := "()LChainParts$Table;" } : Jvm.MethodName) prog_12_method_2_code (3 : Nat) (Option.some (Jvm.ClassFile.FieldType.object "ChainParts$Table"))) ∈ lw_all := lw_g (lw_at lw_m3 118 rfl) rfl
theorem q670 : (Jvm.Cond.methodLink "ChainParts$Table" (26 : Nat) ({ cls := "[J", name := "clone", desc := "()Ljava/lang/Object;" } : Jvm.MethodName)) ∈ lw_all := lw_g (lw_at lw_m3 119 rfl) rfl
theorem q674 : (Jvm.Cond.classLink "ChainParts$Table" (27 : Nat) "[J") ∈ lw_all := lw_g (lw_at lw_m3 123 rfl) rfl
theorem q687 : (Jvm.Cond.instanceMethod ({ cls := "ChainParts$Table", name := "rank", desc := "()I" } : Jvm.MethodName)) ∈ lw_all := lw_g (lw_at lw_m3 136 rfl) rfl
theorem q688 : (Jvm.Cond.selects "ChainParts$Table" ({ cls := "ChainParts$Table", name := "rank", desc := "()I" } : Jvm.MethodName) ({ cls := "ChainParts$Table", name := "rank", desc := "()I" } : Jvm.MethodName)) ∈ lw_all := lw_g (lw_at lw_m3 137 rfl) rfl
theorem q689 : (Jvm.Cond.code ({ cls := "ChainParts$Table", name := "rank", desc := "()I" } : Jvm.MethodName) prog_12_method_18_code (1 : Nat) (Option.some Jvm.ClassFile.FieldType.int)) ∈ lw_all := lw_g (lw_at lw_m3 138 rfl) rfl
theorem q690 : (Jvm.Cond.methodLink "ChainParts$Table" (86 : Nat) ({ cls := "ChainParts$Table", name := "and", desc := "([J)LChainParts$Table;" } : Jvm.MethodName)) ∈ lw_all := lw_g (lw_at lw_m3 139 rfl) rfl
theorem q691 : (Jvm.Cond.instanceMethod ({ cls := "ChainParts$Table", name := "and", desc := "([J)LChainParts$Table;" } : Jvm.MethodName)) ∈ lw_all := lw_g (lw_at lw_m3 140 rfl) rfl
theorem q692 : (Jvm.Cond.selects "ChainParts$Table" ({ cls := "ChainParts$Table", name := "and", desc := "([J)LChainParts$Table;" } : Jvm.MethodName) ({ cls := "ChainParts$Table", name := "and", desc := "([J)LChainParts$Table;" } : Jvm.MethodName)) ∈ lw_all := lw_g (lw_at lw_m3 141 rfl) rfl
theorem q693 : (Jvm.Cond.code ({ cls := "ChainParts$Table", name := "and", desc := "([J)LChainParts$Table;" } : Jvm.MethodName) prog_12_method_17_code (4 : Nat) (Option.some (Jvm.ClassFile.FieldType.object "ChainParts$Table"))) ∈ lw_all := lw_g (lw_at lw_m3 142 rfl) rfl
theorem q694 : (Jvm.Cond.methodLink "ChainParts$Table" (80 : Nat) ({ cls := "java/lang/System", name := "arraycopy", desc := "(Ljava/lang/Object;ILjava/lang/Object;II)V" } : Jvm.MethodName)) ∈ lw_all := lw_g (lw_at lw_m3 143 rfl) rfl
theorem q695 : (Jvm.Cond.methodLink "ChainParts$Table" (90 : Nat) ({ cls := "ChainParts$Table", name := "diagonal", desc := "()I" } : Jvm.MethodName)) ∈ lw_all := lw_g (lw_at lw_m3 144 rfl) rfl
theorem q696 : (Jvm.Cond.instanceMethod ({ cls := "ChainParts$Table", name := "diagonal", desc := "()I" } : Jvm.MethodName)) ∈ lw_all := lw_g (lw_at lw_m3 145 rfl) rfl
theorem q697 : (Jvm.Cond.selects "ChainParts$Table" ({ cls := "ChainParts$Table", name := "diagonal", desc := "()I" } : Jvm.MethodName) ({ cls := "ChainParts$Table", name := "diagonal", desc := "()I" } : Jvm.MethodName)) ∈ lw_all := lw_g (lw_at lw_m3 146 rfl) rfl
theorem q698 : (Jvm.Cond.code ({ cls := "ChainParts$Table", name := "diagonal", desc := "()I" } : Jvm.MethodName) prog_12_method_15_code (3 : Nat) (Option.some Jvm.ClassFile.FieldType.int)) ∈ lw_all := lw_g (lw_at lw_m3 147 rfl) rfl
theorem q699 : (Jvm.Cond.methodLink "ChainParts$Table" (70 : Nat) ({ cls := "ChainParts$Table", name := "least", desc := "(I)I" } : Jvm.MethodName)) ∈ lw_all := lw_g (lw_at lw_m3 148 rfl) rfl
theorem q700 : (Jvm.Cond.privateMethod ({ cls := "ChainParts$Table", name := "least", desc := "(I)I" } : Jvm.MethodName)) ∈ lw_tbl := lw_at lw_m3 149 rfl
theorem q701 : (Jvm.Cond.instanceMethod ({ cls := "ChainParts$Table", name := "least", desc := "(I)I" } : Jvm.MethodName)) ∈ lw_all := lw_g (lw_at lw_m3 150 rfl) rfl
theorem q702 : (Jvm.Cond.code ({ cls := "ChainParts$Table", name := "least", desc := "(I)I" } : Jvm.MethodName) prog_12_method_14_code (9 : Nat) (Option.some Jvm.ClassFile.FieldType.int)) ∈ lw_all := lw_g (lw_at lw_m3 151 rfl) rfl
theorem q703 : (Jvm.Cond.constant "ChainParts$Table" (63 : Nat) (-1000000 : Int32)) ∈ lw_all := lw_g (lw_at lw_m3 152 rfl) rfl
theorem q704 : (Jvm.Cond.methodLink "ChainParts$Table" (64 : Nat) ({ cls := "java/lang/Math", name := "abs", desc := "(J)J" } : Jvm.MethodName)) ∈ lw_all := lw_g (lw_at lw_m3 153 rfl) rfl
theorem q707 : (Jvm.Cond.methodLink "ChainParts$Table" (53 : Nat) ({ cls := "ChainParts$Table", name := "swapRows", desc := "(II)V" } : Jvm.MethodName)) ∈ lw_all := lw_g (lw_at lw_m3 156 rfl) rfl
theorem q708 : (Jvm.Cond.privateMethod ({ cls := "ChainParts$Table", name := "swapRows", desc := "(II)V" } : Jvm.MethodName)) ∈ lw_tbl := lw_at lw_m3 157 rfl
theorem q709 : (Jvm.Cond.instanceMethod ({ cls := "ChainParts$Table", name := "swapRows", desc := "(II)V" } : Jvm.MethodName)) ∈ lw_all := lw_g (lw_at lw_m3 158 rfl) rfl
theorem q710 : (Jvm.Cond.code ({ cls := "ChainParts$Table", name := "swapRows", desc := "(II)V" } : Jvm.MethodName) prog_12_method_8_code (4 : Nat) (Option.none : Option Jvm.ClassFile.FieldType)) ∈ lw_all := lw_g (lw_at lw_m3 159 rfl) rfl
theorem q711 : (Jvm.Cond.methodLink "ChainParts$Table" (73 : Nat) ({ cls := "ChainParts$Table", name := "swapColumns", desc := "(II)V" } : Jvm.MethodName)) ∈ lw_all := lw_g (lw_at lw_m3 160 rfl) rfl
theorem q712 : (Jvm.Cond.privateMethod ({ cls := "ChainParts$Table", name := "swapColumns", desc := "(II)V" } : Jvm.MethodName)) ∈ lw_tbl := lw_at lw_m3 161 rfl
theorem q713 : (Jvm.Cond.instanceMethod ({ cls := "ChainParts$Table", name := "swapColumns", desc := "(II)V" } : Jvm.MethodName)) ∈ lw_all := lw_g (lw_at lw_m3 162 rfl) rfl
theorem q714 : (Jvm.Cond.code ({ cls := "ChainParts$Table", name := "swapColumns", desc := "(II)V" } : Jvm.MethodName) prog_12_method_9_code (9 : Nat) (Option.none : Option Jvm.ClassFile.FieldType)) ∈ lw_all := lw_g (lw_at lw_m3 163 rfl) rfl
theorem q715 : (Jvm.Cond.methodLink "ChainParts$Table" (76 : Nat) ({ cls := "ChainParts$Table", name := "clear", desc := "(I)Z" } : Jvm.MethodName)) ∈ lw_all := lw_g (lw_at lw_m3 164 rfl) rfl
theorem q716 : (Jvm.Cond.privateMethod ({ cls := "ChainParts$Table", name := "clear", desc := "(I)Z" } : Jvm.MethodName)) ∈ lw_tbl := lw_at lw_m3 165 rfl
theorem q717 : (Jvm.Cond.instanceMethod ({ cls := "ChainParts$Table", name := "clear", desc := "(I)Z" } : Jvm.MethodName)) ∈ lw_all := lw_g (lw_at lw_m3 166 rfl) rfl
theorem q718 : (Jvm.Cond.code ({ cls := "ChainParts$Table", name := "clear", desc := "(I)Z" } : Jvm.MethodName) prog_12_method_16_code (7 : Nat) (Option.some Jvm.ClassFile.FieldType.boolean)) ∈ lw_all := lw_g (lw_at lw_m3 167 rfl) rfl
theorem q720 : (Jvm.Cond.instanceMethod ({ cls := "ChainParts$Table", name := "rankBy", desc := "(I)I" } : Jvm.MethodName)) ∈ lw_all := lw_g (lw_at lw_m3 169 rfl) rfl
theorem q721 : (Jvm.Cond.selects "ChainParts$Table" ({ cls := "ChainParts$Table", name := "rankBy", desc := "(I)I" } : Jvm.MethodName) ({ cls := "ChainParts$Table", name := "rankBy", desc := "(I)I" } : Jvm.MethodName)) ∈ lw_all := lw_g (lw_at lw_m3 170 rfl) rfl
theorem q722 : (Jvm.Cond.code ({ cls := "ChainParts$Table", name := "rankBy", desc := "(I)I" } : Jvm.MethodName) prog_12_method_13_code (12 : Nat) (Option.some Jvm.ClassFile.FieldType.int)) ∈ lw_all := lw_g (lw_at lw_m3 171 rfl) rfl
theorem q723 : (Jvm.Cond.methodLink "ChainParts$Table" (56 : Nat) ({ cls := "ChainParts$Table", name := "leftBy", desc := "(JI)J" } : Jvm.MethodName)) ∈ lw_all := lw_g (lw_at lw_m3 172 rfl) rfl
theorem q724 : (Jvm.Cond.static ({ cls := "ChainParts$Table", name := "leftBy", desc := "(JI)J" } : Jvm.MethodName)) ∈ lw_all := lw_g (lw_at lw_m3 173 rfl) rfl
theorem q725 : (Jvm.Cond.code ({ cls := "ChainParts$Table", name := "leftBy", desc := "(JI)J" } : Jvm.MethodName) prog_12_method_11_code (3 : Nat) (Option.some Jvm.ClassFile.FieldType.long)) ∈ lw_all := lw_g (lw_at lw_m3 174 rfl) rfl
theorem q726 : (Jvm.Cond.methodLink "ChainParts$Table" (60 : Nat) ({ cls := "ChainParts$Table", name := "inverse", desc := "(JI)J" } : Jvm.MethodName)) ∈ lw_all := lw_g (lw_at lw_m3 175 rfl) rfl
theorem q727 : (Jvm.Cond.static ({ cls := "ChainParts$Table", name := "inverse", desc := "(JI)J" } : Jvm.MethodName)) ∈ lw_all := lw_g (lw_at lw_m3 176 rfl) rfl
theorem q728 : (Jvm.Cond.code ({ cls := "ChainParts$Table", name := "inverse", desc := "(JI)J" } : Jvm.MethodName) prog_12_method_12_code (5 : Nat) (Option.some Jvm.ClassFile.FieldType.long)) ∈ lw_all := lw_g (lw_at lw_m3 177 rfl) rfl
theorem q748 : (Jvm.Cond.instanceMethod ({ cls := "ChainParts$Table", name := "some", desc := "(I)LChainParts$Table;" } : Jvm.MethodName)) ∈ lw_all := lw_g (lw_at lw_m3 197 rfl) rfl
theorem q749 : (Jvm.Cond.selects "ChainParts$Table" ({ cls := "ChainParts$Table", name := "some", desc := "(I)LChainParts$Table;" } : Jvm.MethodName) ({ cls := "ChainParts$Table", name := "some", desc := "(I)LChainParts$Table;" } : Jvm.MethodName)) ∈ lw_all := lw_g (lw_at lw_m3 198 rfl) rfl
theorem q750 : (Jvm.Cond.code ({ cls := "ChainParts$Table", name := "some", desc := "(I)LChainParts$Table;" } : Jvm.MethodName) prog_12_method_6_code (6 : Nat) (Option.some (Jvm.ClassFile.FieldType.object "ChainParts$Table"))) ∈ lw_all := lw_g (lw_at lw_m3 199 rfl) rfl
theorem q751 : (Jvm.Cond.methodLink "ChainParts$Table" (36 : Nat) ({ cls := "java/lang/Integer", name := "bitCount", desc := "(I)I" } : Jvm.MethodName)) ∈ lw_all := lw_g (lw_at lw_m3 200 rfl) rfl
theorem q757 : (Jvm.Cond.methodLinkNest "ChainParts$Table" (42 : Nat) ({ cls := "ChainParts", name := "has", desc := "(II)Z" } : Jvm.MethodName) "ChainParts") ∈ lw_tbl := lw_at lw_m3 206 rfl
theorem q761 : (Jvm.Cond.instanceMethod ({ cls := "ChainParts$Table", name := "twists", desc := "()[J" } : Jvm.MethodName)) ∈ lw_all := lw_g (lw_at lw_m3 210 rfl) rfl
theorem q762 : (Jvm.Cond.selects "ChainParts$Table" ({ cls := "ChainParts$Table", name := "twists", desc := "()[J" } : Jvm.MethodName) ({ cls := "ChainParts$Table", name := "twists", desc := "()[J" } : Jvm.MethodName)) ∈ lw_all := lw_g (lw_at lw_m3 211 rfl) rfl
theorem q763 : (Jvm.Cond.code ({ cls := "ChainParts$Table", name := "twists", desc := "()[J" } : Jvm.MethodName) prog_12_method_19_code (8 : Nat) (Option.some (Jvm.ClassFile.FieldType.array Jvm.ClassFile.FieldType.long))) ∈ lw_all := lw_g (lw_at lw_m3 212 rfl) rfl
theorem q764 : (Jvm.Cond.methodLinkNest "ChainParts$Table" (94 : Nat) ({ cls := "ChainParts", name := "common", desc := "(JJ)J" } : Jvm.MethodName) "ChainParts") ∈ lw_tbl := lw_at lw_m3 213 rfl
theorem q826 : (Jvm.Cond.instanceMethod ({ cls := "ChainParts$Table", name := "determinant", desc := "()J" } : Jvm.MethodName)) ∈ lw_all := lw_g (lw_at lw_m4 35 rfl) rfl
theorem q827 : (Jvm.Cond.selects "ChainParts$Table" ({ cls := "ChainParts$Table", name := "determinant", desc := "()J" } : Jvm.MethodName) ({ cls := "ChainParts$Table", name := "determinant", desc := "()J" } : Jvm.MethodName)) ∈ lw_all := lw_g (lw_at lw_m4 36 rfl) rfl
theorem q828 : (Jvm.Cond.code ({ cls := "ChainParts$Table", name := "determinant", desc := "()J" } : Jvm.MethodName) prog_12_method_10_code (10 : Nat) (Option.some Jvm.ClassFile.FieldType.long)) ∈ lw_all := lw_g (lw_at lw_m4 37 rfl) rfl
theorem q910 : (Jvm.Cond.instanceMethod ({ cls := "ChainParts$Table", name := "within", desc := "(I)LChainParts$Table;" } : Jvm.MethodName)) ∈ lw_all := lw_g (lw_at lw_m4 119 rfl) rfl
theorem q911 : (Jvm.Cond.selects "ChainParts$Table" ({ cls := "ChainParts$Table", name := "within", desc := "(I)LChainParts$Table;" } : Jvm.MethodName) ({ cls := "ChainParts$Table", name := "within", desc := "(I)LChainParts$Table;" } : Jvm.MethodName)) ∈ lw_all := lw_g (lw_at lw_m4 120 rfl) rfl
theorem q912 : (Jvm.Cond.code ({ cls := "ChainParts$Table", name := "within", desc := "(I)LChainParts$Table;" } : Jvm.MethodName) prog_12_method_7_code (2 : Nat) (Option.some (Jvm.ClassFile.FieldType.object "ChainParts$Table"))) ∈ lw_all := lw_g (lw_at lw_m4 121 rfl) rfl
theorem q913 : (Jvm.Cond.methodLink "ChainParts$Table" (46 : Nat) ({ cls := "ChainParts$Table", name := "some", desc := "(I)LChainParts$Table;" } : Jvm.MethodName)) ∈ lw_all := lw_g (lw_at lw_m4 122 rfl) rfl
theorem q914 : (Jvm.Cond.methodLink "ChainParts$Table" (50 : Nat) ({ cls := "ChainParts$Table", name := "turned", desc := "()LChainParts$Table;" } : Jvm.MethodName)) ∈ lw_all := lw_g (lw_at lw_m4 123 rfl) rfl
theorem in_X11 : ∀ w ∈ wsX110, w ∈ lw_all := lw_in wsX110 [630, 632, 634] (by decide +kernel) (by decide +kernel)
/-! ChainParts$Complex -/
set_option maxRecDepth 100000
def RX9 : String := "ChainParts$Complex"
def TX9 : u_T := fun k => match k with
  | 0 => ("ChainParts$Complex", "points", "I", true)
  | 1 => ("ChainParts$Complex", "edges", "[LChainParts$EdgeCell;", true)
  | 2 => ("ChainParts$Complex", "faces", "[LChainParts$FaceCell;", true)
  | _ => ("ChainParts$Complex", "chains", "[[I", true)
def tyX9 : Nat → FieldType := fun k => match k with
  | 0 => .int
  | 1 => .array (.object "ChainParts$EdgeCell")
  | 2 => .array (.object "ChainParts$FaceCell")
  | _ => .array (.array .int)
abbrev wsX90 : List Cond := u_ws RX9 TX9 4
theorem nmX9 : ∀ a, a < 4 → ∀ b, b < 4 → a ≠ b → (TX9 a).2.1 ≠ (TX9 b).2.1 := by decide +kernel
theorem tyX9_ok : ∀ k, k < 4 → parseFieldDescriptor (TX9 k).2.2.1 = some (tyX9 k) := by decide +kernel
abbrev cX9_init : ByteArray := prog_3_method_1_code
def yX9_init : MethodName := ⟨RX9, "<init>", "(I[LChainParts$EdgeCell;[LChainParts$FaceCell;[[I)V"⟩
def dkwX9_init_1 : List UInt8 := [181, 0, 23, 177]
abbrev dktX9_init_1 : List UInt8 := dkwX9_init_1 ++ []
def dkwX9_init_0 : List UInt8 := [42, 183, 0, 3, 42, 27, 181, 0, 9, 42, 44, 181, 0, 15, 42, 45, 181, 0, 19, 42, 25, 4]
abbrev dktX9_init_0 : List UInt8 := dkwX9_init_0 ++ dktX9_init_1
theorem dksX9_init_0 : cX9_init.data.toList.drop 0 = dktX9_init_0 := by decide +kernel
theorem dksX9_init_1 : cX9_init.data.toList.drop 22 = dktX9_init_1 := dk_seg dksX9_init_0 22 rfl rfl
theorem dX9_init_0 : decode cX9_init 0 = .ok (.aload_n 0, 1) := dk_42 (dk_at dksX9_init_0 0 rfl rfl)
theorem dX9_init_1 : decode cX9_init 1 = .ok (.invokespecial 3, 3) := dk_183 0 3 (dk_at dksX9_init_0 1 rfl rfl)
theorem dX9_init_4 : decode cX9_init 4 = .ok (.aload_n 0, 1) := dk_42 (dk_at dksX9_init_0 4 rfl rfl)
theorem dX9_init_5 : decode cX9_init 5 = .ok (.iload_n 1, 1) := dk_27 (dk_at dksX9_init_0 5 rfl rfl)
theorem dX9_init_6 : decode cX9_init 6 = .ok (.putfield 9, 3) := dk_181 0 9 (dk_at dksX9_init_0 6 rfl rfl)
theorem dX9_init_9 : decode cX9_init 9 = .ok (.aload_n 0, 1) := dk_42 (dk_at dksX9_init_0 9 rfl rfl)
theorem dX9_init_10 : decode cX9_init 10 = .ok (.aload_n 2, 1) := dk_44 (dk_at dksX9_init_0 10 rfl rfl)
theorem dX9_init_11 : decode cX9_init 11 = .ok (.putfield 15, 3) := dk_181 0 15 (dk_at dksX9_init_0 11 rfl rfl)
theorem dX9_init_14 : decode cX9_init 14 = .ok (.aload_n 0, 1) := dk_42 (dk_at dksX9_init_0 14 rfl rfl)
theorem dX9_init_15 : decode cX9_init 15 = .ok (.aload_n 3, 1) := dk_45 (dk_at dksX9_init_0 15 rfl rfl)
theorem dX9_init_16 : decode cX9_init 16 = .ok (.putfield 19, 3) := dk_181 0 19 (dk_at dksX9_init_0 16 rfl rfl)
theorem dX9_init_19 : decode cX9_init 19 = .ok (.aload_n 0, 1) := dk_42 (dk_at dksX9_init_0 19 rfl rfl)
theorem dX9_init_20 : decode cX9_init 20 = .ok (.aload 4, 2) := dk_25 4 (dk_at dksX9_init_0 20 rfl rfl)
theorem dX9_init_22 : decode cX9_init 22 = .ok (.putfield 23, 3) := dk_181 0 23 (dk_at dksX9_init_1 0 rfl rfl)
theorem dX9_init_25 : decode cX9_init 25 = .ok (.return_, 1) := dk_177 (dk_at dksX9_init_1 3 rfl rfl)
abbrev cX9_many : ByteArray := prog_3_method_24_code
def yX9_many : MethodName := ⟨RX9, "many", "(I)I"⟩
def dkwX9_many_1 : List UInt8 := [42, 180, 0, 19, 190, 172]
abbrev dktX9_many_1 : List UInt8 := dkwX9_many_1 ++ []
def dkwX9_many_0 : List UInt8 := [27, 154, 0, 10, 42, 180, 0, 9, 167, 0, 21, 27, 4, 160, 0, 11, 42, 180, 0, 15, 190, 167, 0, 8]
abbrev dktX9_many_0 : List UInt8 := dkwX9_many_0 ++ dktX9_many_1
theorem dksX9_many_0 : cX9_many.data.toList.drop 0 = dktX9_many_0 := by decide +kernel
theorem dksX9_many_1 : cX9_many.data.toList.drop 24 = dktX9_many_1 := dk_seg dksX9_many_0 24 rfl rfl
theorem dX9_many_0 : decode cX9_many 0 = .ok (.iload_n 1, 1) := dk_27 (dk_at dksX9_many_0 0 rfl rfl)
theorem dX9_many_1 : decode cX9_many 1 = .ok (.ifCond .ne 10, 3) := dk_154 0 10 (dk_at dksX9_many_0 1 rfl rfl)
theorem dX9_many_4 : decode cX9_many 4 = .ok (.aload_n 0, 1) := dk_42 (dk_at dksX9_many_0 4 rfl rfl)
theorem dX9_many_5 : decode cX9_many 5 = .ok (.getfield 9, 3) := dk_180 0 9 (dk_at dksX9_many_0 5 rfl rfl)
theorem dX9_many_8 : decode cX9_many 8 = .ok (.goto 21, 3) := dk_167 0 21 (dk_at dksX9_many_0 8 rfl rfl)
theorem dX9_many_11 : decode cX9_many 11 = .ok (.iload_n 1, 1) := dk_27 (dk_at dksX9_many_0 11 rfl rfl)
theorem dX9_many_12 : decode cX9_many 12 = .ok (.iconst 1, 1) := dk_4 (dk_at dksX9_many_0 12 rfl rfl)
theorem dX9_many_13 : decode cX9_many 13 = .ok (.if_icmp .ne 11, 3) := dk_160 0 11 (dk_at dksX9_many_0 13 rfl rfl)
theorem dX9_many_16 : decode cX9_many 16 = .ok (.aload_n 0, 1) := dk_42 (dk_at dksX9_many_0 16 rfl rfl)
theorem dX9_many_17 : decode cX9_many 17 = .ok (.getfield 15, 3) := dk_180 0 15 (dk_at dksX9_many_0 17 rfl rfl)
theorem dX9_many_20 : decode cX9_many 20 = .ok (.arraylength, 1) := dk_190 (dk_at dksX9_many_0 20 rfl rfl)
theorem dX9_many_21 : decode cX9_many 21 = .ok (.goto 8, 3) := dk_167 0 8 (dk_at dksX9_many_0 21 rfl rfl)
theorem dX9_many_24 : decode cX9_many 24 = .ok (.aload_n 0, 1) := dk_42 (dk_at dksX9_many_1 0 rfl rfl)
theorem dX9_many_25 : decode cX9_many 25 = .ok (.getfield 19, 3) := dk_180 0 19 (dk_at dksX9_many_1 1 rfl rfl)
theorem dX9_many_28 : decode cX9_many 28 = .ok (.arraylength, 1) := dk_190 (dk_at dksX9_many_1 4 rfl rfl)
theorem dX9_many_29 : decode cX9_many 29 = .ok (.ireturn, 1) := dk_172 (dk_at dksX9_many_1 5 rfl rfl)
abbrev cX9_withEdge : ByteArray := prog_3_method_2_code
def yX9_withEdge : MethodName := ⟨RX9, "withEdge", "(ILChainParts$EdgeCell;)LChainParts$Complex;"⟩
def dkwX9_withEdge_2 : List UInt8 := [42, 180, 0, 23, 183, 0, 41, 176]
abbrev dktX9_withEdge_2 : List UInt8 := dkwX9_withEdge_2 ++ []
def dkwX9_withEdge_1 : List UInt8 := [180, 0, 15, 190, 184, 0, 35, 45, 27, 44, 83, 187, 0, 10, 89, 42, 180, 0, 9, 45, 42, 180, 0, 19]
abbrev dktX9_withEdge_1 : List UInt8 := dkwX9_withEdge_1 ++ dktX9_withEdge_2
def dkwX9_withEdge_0 : List UInt8 := [27, 4, 96, 42, 180, 0, 15, 190, 184, 0, 27, 189, 0, 33, 78, 42, 180, 0, 15, 3, 45, 3, 42]
abbrev dktX9_withEdge_0 : List UInt8 := dkwX9_withEdge_0 ++ dktX9_withEdge_1
theorem dksX9_withEdge_0 : cX9_withEdge.data.toList.drop 0 = dktX9_withEdge_0 := by decide +kernel
theorem dksX9_withEdge_1 : cX9_withEdge.data.toList.drop 23 = dktX9_withEdge_1 := dk_seg dksX9_withEdge_0 23 rfl rfl
theorem dksX9_withEdge_2 : cX9_withEdge.data.toList.drop 47 = dktX9_withEdge_2 := dk_seg dksX9_withEdge_1 24 rfl rfl
theorem dX9_withEdge_0 : decode cX9_withEdge 0 = .ok (.iload_n 1, 1) := dk_27 (dk_at dksX9_withEdge_0 0 rfl rfl)
theorem dX9_withEdge_1 : decode cX9_withEdge 1 = .ok (.iconst 1, 1) := dk_4 (dk_at dksX9_withEdge_0 1 rfl rfl)
theorem dX9_withEdge_2 : decode cX9_withEdge 2 = .ok (.iadd, 1) := dk_96 (dk_at dksX9_withEdge_0 2 rfl rfl)
theorem dX9_withEdge_3 : decode cX9_withEdge 3 = .ok (.aload_n 0, 1) := dk_42 (dk_at dksX9_withEdge_0 3 rfl rfl)
theorem dX9_withEdge_4 : decode cX9_withEdge 4 = .ok (.getfield 15, 3) := dk_180 0 15 (dk_at dksX9_withEdge_0 4 rfl rfl)
theorem dX9_withEdge_7 : decode cX9_withEdge 7 = .ok (.arraylength, 1) := dk_190 (dk_at dksX9_withEdge_0 7 rfl rfl)
theorem dX9_withEdge_8 : decode cX9_withEdge 8 = .ok (.invokestatic 27, 3) := dk_184 0 27 (dk_at dksX9_withEdge_0 8 rfl rfl)
theorem dX9_withEdge_11 : decode cX9_withEdge 11 = .ok (.anewarray 33, 3) := dk_189 0 33 (dk_at dksX9_withEdge_0 11 rfl rfl)
theorem dX9_withEdge_14 : decode cX9_withEdge 14 = .ok (.astore_n 3, 1) := dk_78 (dk_at dksX9_withEdge_0 14 rfl rfl)
theorem dX9_withEdge_15 : decode cX9_withEdge 15 = .ok (.aload_n 0, 1) := dk_42 (dk_at dksX9_withEdge_0 15 rfl rfl)
theorem dX9_withEdge_16 : decode cX9_withEdge 16 = .ok (.getfield 15, 3) := dk_180 0 15 (dk_at dksX9_withEdge_0 16 rfl rfl)
theorem dX9_withEdge_19 : decode cX9_withEdge 19 = .ok (.iconst 0, 1) := dk_3 (dk_at dksX9_withEdge_0 19 rfl rfl)
theorem dX9_withEdge_20 : decode cX9_withEdge 20 = .ok (.aload_n 3, 1) := dk_45 (dk_at dksX9_withEdge_0 20 rfl rfl)
theorem dX9_withEdge_21 : decode cX9_withEdge 21 = .ok (.iconst 0, 1) := dk_3 (dk_at dksX9_withEdge_0 21 rfl rfl)
theorem dX9_withEdge_22 : decode cX9_withEdge 22 = .ok (.aload_n 0, 1) := dk_42 (dk_at dksX9_withEdge_0 22 rfl rfl)
theorem dX9_withEdge_23 : decode cX9_withEdge 23 = .ok (.getfield 15, 3) := dk_180 0 15 (dk_at dksX9_withEdge_1 0 rfl rfl)
theorem dX9_withEdge_26 : decode cX9_withEdge 26 = .ok (.arraylength, 1) := dk_190 (dk_at dksX9_withEdge_1 3 rfl rfl)
theorem dX9_withEdge_27 : decode cX9_withEdge 27 = .ok (.invokestatic 35, 3) := dk_184 0 35 (dk_at dksX9_withEdge_1 4 rfl rfl)
theorem dX9_withEdge_30 : decode cX9_withEdge 30 = .ok (.aload_n 3, 1) := dk_45 (dk_at dksX9_withEdge_1 7 rfl rfl)
theorem dX9_withEdge_31 : decode cX9_withEdge 31 = .ok (.iload_n 1, 1) := dk_27 (dk_at dksX9_withEdge_1 8 rfl rfl)
theorem dX9_withEdge_32 : decode cX9_withEdge 32 = .ok (.aload_n 2, 1) := dk_44 (dk_at dksX9_withEdge_1 9 rfl rfl)
theorem dX9_withEdge_33 : decode cX9_withEdge 33 = .ok (.aastore, 1) := dk_83 (dk_at dksX9_withEdge_1 10 rfl rfl)
theorem dX9_withEdge_34 : decode cX9_withEdge 34 = .ok (.new 10, 3) := dk_187 0 10 (dk_at dksX9_withEdge_1 11 rfl rfl)
theorem dX9_withEdge_37 : decode cX9_withEdge 37 = .ok (.dup, 1) := dk_89 (dk_at dksX9_withEdge_1 14 rfl rfl)
theorem dX9_withEdge_38 : decode cX9_withEdge 38 = .ok (.aload_n 0, 1) := dk_42 (dk_at dksX9_withEdge_1 15 rfl rfl)
theorem dX9_withEdge_39 : decode cX9_withEdge 39 = .ok (.getfield 9, 3) := dk_180 0 9 (dk_at dksX9_withEdge_1 16 rfl rfl)
theorem dX9_withEdge_42 : decode cX9_withEdge 42 = .ok (.aload_n 3, 1) := dk_45 (dk_at dksX9_withEdge_1 19 rfl rfl)
theorem dX9_withEdge_43 : decode cX9_withEdge 43 = .ok (.aload_n 0, 1) := dk_42 (dk_at dksX9_withEdge_1 20 rfl rfl)
theorem dX9_withEdge_44 : decode cX9_withEdge 44 = .ok (.getfield 19, 3) := dk_180 0 19 (dk_at dksX9_withEdge_1 21 rfl rfl)
theorem dX9_withEdge_47 : decode cX9_withEdge 47 = .ok (.aload_n 0, 1) := dk_42 (dk_at dksX9_withEdge_2 0 rfl rfl)
theorem dX9_withEdge_48 : decode cX9_withEdge 48 = .ok (.getfield 23, 3) := dk_180 0 23 (dk_at dksX9_withEdge_2 1 rfl rfl)
theorem dX9_withEdge_51 : decode cX9_withEdge 51 = .ok (.invokespecial 41, 3) := dk_183 0 41 (dk_at dksX9_withEdge_2 4 rfl rfl)
theorem dX9_withEdge_54 : decode cX9_withEdge 54 = .ok (.areturn, 1) := dk_176 (dk_at dksX9_withEdge_2 7 rfl rfl)
abbrev cX9_withFace : ByteArray := prog_3_method_3_code
def yX9_withFace : MethodName := ⟨RX9, "withFace", "(ILChainParts$FaceCell;)LChainParts$Complex;"⟩
def dkwX9_withFace_2 : List UInt8 := [42, 180, 0, 23, 183, 0, 41, 176]
abbrev dktX9_withFace_2 : List UInt8 := dkwX9_withFace_2 ++ []
def dkwX9_withFace_1 : List UInt8 := [180, 0, 19, 190, 184, 0, 35, 45, 27, 44, 83, 187, 0, 10, 89, 42, 180, 0, 9, 42, 180, 0, 15, 45]
abbrev dktX9_withFace_1 : List UInt8 := dkwX9_withFace_1 ++ dktX9_withFace_2
def dkwX9_withFace_0 : List UInt8 := [27, 4, 96, 42, 180, 0, 19, 190, 184, 0, 27, 189, 0, 44, 78, 42, 180, 0, 19, 3, 45, 3, 42]
abbrev dktX9_withFace_0 : List UInt8 := dkwX9_withFace_0 ++ dktX9_withFace_1
theorem dksX9_withFace_0 : cX9_withFace.data.toList.drop 0 = dktX9_withFace_0 := by decide +kernel
theorem dksX9_withFace_1 : cX9_withFace.data.toList.drop 23 = dktX9_withFace_1 := dk_seg dksX9_withFace_0 23 rfl rfl
theorem dksX9_withFace_2 : cX9_withFace.data.toList.drop 47 = dktX9_withFace_2 := dk_seg dksX9_withFace_1 24 rfl rfl
theorem dX9_withFace_0 : decode cX9_withFace 0 = .ok (.iload_n 1, 1) := dk_27 (dk_at dksX9_withFace_0 0 rfl rfl)
theorem dX9_withFace_1 : decode cX9_withFace 1 = .ok (.iconst 1, 1) := dk_4 (dk_at dksX9_withFace_0 1 rfl rfl)
theorem dX9_withFace_2 : decode cX9_withFace 2 = .ok (.iadd, 1) := dk_96 (dk_at dksX9_withFace_0 2 rfl rfl)
theorem dX9_withFace_3 : decode cX9_withFace 3 = .ok (.aload_n 0, 1) := dk_42 (dk_at dksX9_withFace_0 3 rfl rfl)
theorem dX9_withFace_4 : decode cX9_withFace 4 = .ok (.getfield 19, 3) := dk_180 0 19 (dk_at dksX9_withFace_0 4 rfl rfl)
theorem dX9_withFace_7 : decode cX9_withFace 7 = .ok (.arraylength, 1) := dk_190 (dk_at dksX9_withFace_0 7 rfl rfl)
theorem dX9_withFace_8 : decode cX9_withFace 8 = .ok (.invokestatic 27, 3) := dk_184 0 27 (dk_at dksX9_withFace_0 8 rfl rfl)
theorem dX9_withFace_11 : decode cX9_withFace 11 = .ok (.anewarray 44, 3) := dk_189 0 44 (dk_at dksX9_withFace_0 11 rfl rfl)
theorem dX9_withFace_14 : decode cX9_withFace 14 = .ok (.astore_n 3, 1) := dk_78 (dk_at dksX9_withFace_0 14 rfl rfl)
theorem dX9_withFace_15 : decode cX9_withFace 15 = .ok (.aload_n 0, 1) := dk_42 (dk_at dksX9_withFace_0 15 rfl rfl)
theorem dX9_withFace_16 : decode cX9_withFace 16 = .ok (.getfield 19, 3) := dk_180 0 19 (dk_at dksX9_withFace_0 16 rfl rfl)
theorem dX9_withFace_19 : decode cX9_withFace 19 = .ok (.iconst 0, 1) := dk_3 (dk_at dksX9_withFace_0 19 rfl rfl)
theorem dX9_withFace_20 : decode cX9_withFace 20 = .ok (.aload_n 3, 1) := dk_45 (dk_at dksX9_withFace_0 20 rfl rfl)
theorem dX9_withFace_21 : decode cX9_withFace 21 = .ok (.iconst 0, 1) := dk_3 (dk_at dksX9_withFace_0 21 rfl rfl)
theorem dX9_withFace_22 : decode cX9_withFace 22 = .ok (.aload_n 0, 1) := dk_42 (dk_at dksX9_withFace_0 22 rfl rfl)
theorem dX9_withFace_23 : decode cX9_withFace 23 = .ok (.getfield 19, 3) := dk_180 0 19 (dk_at dksX9_withFace_1 0 rfl rfl)
theorem dX9_withFace_26 : decode cX9_withFace 26 = .ok (.arraylength, 1) := dk_190 (dk_at dksX9_withFace_1 3 rfl rfl)
theorem dX9_withFace_27 : decode cX9_withFace 27 = .ok (.invokestatic 35, 3) := dk_184 0 35 (dk_at dksX9_withFace_1 4 rfl rfl)
theorem dX9_withFace_30 : decode cX9_withFace 30 = .ok (.aload_n 3, 1) := dk_45 (dk_at dksX9_withFace_1 7 rfl rfl)
theorem dX9_withFace_31 : decode cX9_withFace 31 = .ok (.iload_n 1, 1) := dk_27 (dk_at dksX9_withFace_1 8 rfl rfl)
theorem dX9_withFace_32 : decode cX9_withFace 32 = .ok (.aload_n 2, 1) := dk_44 (dk_at dksX9_withFace_1 9 rfl rfl)
theorem dX9_withFace_33 : decode cX9_withFace 33 = .ok (.aastore, 1) := dk_83 (dk_at dksX9_withFace_1 10 rfl rfl)
theorem dX9_withFace_34 : decode cX9_withFace 34 = .ok (.new 10, 3) := dk_187 0 10 (dk_at dksX9_withFace_1 11 rfl rfl)
theorem dX9_withFace_37 : decode cX9_withFace 37 = .ok (.dup, 1) := dk_89 (dk_at dksX9_withFace_1 14 rfl rfl)
theorem dX9_withFace_38 : decode cX9_withFace 38 = .ok (.aload_n 0, 1) := dk_42 (dk_at dksX9_withFace_1 15 rfl rfl)
theorem dX9_withFace_39 : decode cX9_withFace 39 = .ok (.getfield 9, 3) := dk_180 0 9 (dk_at dksX9_withFace_1 16 rfl rfl)
theorem dX9_withFace_42 : decode cX9_withFace 42 = .ok (.aload_n 0, 1) := dk_42 (dk_at dksX9_withFace_1 19 rfl rfl)
theorem dX9_withFace_43 : decode cX9_withFace 43 = .ok (.getfield 15, 3) := dk_180 0 15 (dk_at dksX9_withFace_1 20 rfl rfl)
theorem dX9_withFace_46 : decode cX9_withFace 46 = .ok (.aload_n 3, 1) := dk_45 (dk_at dksX9_withFace_1 23 rfl rfl)
theorem dX9_withFace_47 : decode cX9_withFace 47 = .ok (.aload_n 0, 1) := dk_42 (dk_at dksX9_withFace_2 0 rfl rfl)
theorem dX9_withFace_48 : decode cX9_withFace 48 = .ok (.getfield 23, 3) := dk_180 0 23 (dk_at dksX9_withFace_2 1 rfl rfl)
theorem dX9_withFace_51 : decode cX9_withFace 51 = .ok (.invokespecial 41, 3) := dk_183 0 41 (dk_at dksX9_withFace_2 4 rfl rfl)
theorem dX9_withFace_54 : decode cX9_withFace 54 = .ok (.areturn, 1) := dk_176 (dk_at dksX9_withFace_2 7 rfl rfl)
abbrev cX9_isUsed : ByteArray := prog_3_method_7_code
def yX9_isUsed : MethodName := ⟨RX9, "isUsed", "(I)Z"⟩
def dkwX9_isUsed_1 : List UInt8 := [50, 58, 6, 28, 25, 6, 27, 182, 0, 55, 128, 61, 132, 5, 1, 167, 255, 231, 28, 172]
abbrev dktX9_isUsed_1 : List UInt8 := dkwX9_isUsed_1 ++ []
def dkwX9_isUsed_0 : List UInt8 := [3, 61, 42, 180, 0, 19, 78, 45, 190, 54, 4, 3, 54, 5, 21, 5, 21, 4, 162, 0, 24, 45, 21, 5]
abbrev dktX9_isUsed_0 : List UInt8 := dkwX9_isUsed_0 ++ dktX9_isUsed_1
theorem dksX9_isUsed_0 : cX9_isUsed.data.toList.drop 0 = dktX9_isUsed_0 := by decide +kernel
theorem dksX9_isUsed_1 : cX9_isUsed.data.toList.drop 24 = dktX9_isUsed_1 := dk_seg dksX9_isUsed_0 24 rfl rfl
theorem dX9_isUsed_0 : decode cX9_isUsed 0 = .ok (.iconst 0, 1) := dk_3 (dk_at dksX9_isUsed_0 0 rfl rfl)
theorem dX9_isUsed_1 : decode cX9_isUsed 1 = .ok (.istore_n 2, 1) := dk_61 (dk_at dksX9_isUsed_0 1 rfl rfl)
theorem dX9_isUsed_2 : decode cX9_isUsed 2 = .ok (.aload_n 0, 1) := dk_42 (dk_at dksX9_isUsed_0 2 rfl rfl)
theorem dX9_isUsed_3 : decode cX9_isUsed 3 = .ok (.getfield 19, 3) := dk_180 0 19 (dk_at dksX9_isUsed_0 3 rfl rfl)
theorem dX9_isUsed_6 : decode cX9_isUsed 6 = .ok (.astore_n 3, 1) := dk_78 (dk_at dksX9_isUsed_0 6 rfl rfl)
theorem dX9_isUsed_7 : decode cX9_isUsed 7 = .ok (.aload_n 3, 1) := dk_45 (dk_at dksX9_isUsed_0 7 rfl rfl)
theorem dX9_isUsed_8 : decode cX9_isUsed 8 = .ok (.arraylength, 1) := dk_190 (dk_at dksX9_isUsed_0 8 rfl rfl)
theorem dX9_isUsed_9 : decode cX9_isUsed 9 = .ok (.istore 4, 2) := dk_54 4 (dk_at dksX9_isUsed_0 9 rfl rfl)
theorem dX9_isUsed_11 : decode cX9_isUsed 11 = .ok (.iconst 0, 1) := dk_3 (dk_at dksX9_isUsed_0 11 rfl rfl)
theorem dX9_isUsed_12 : decode cX9_isUsed 12 = .ok (.istore 5, 2) := dk_54 5 (dk_at dksX9_isUsed_0 12 rfl rfl)
theorem dX9_isUsed_14 : decode cX9_isUsed 14 = .ok (.iload 5, 2) := dk_21 5 (dk_at dksX9_isUsed_0 14 rfl rfl)
theorem dX9_isUsed_16 : decode cX9_isUsed 16 = .ok (.iload 4, 2) := dk_21 4 (dk_at dksX9_isUsed_0 16 rfl rfl)
theorem dX9_isUsed_18 : decode cX9_isUsed 18 = .ok (.if_icmp .ge 24, 3) := dk_162 0 24 (dk_at dksX9_isUsed_0 18 rfl rfl)
theorem dX9_isUsed_21 : decode cX9_isUsed 21 = .ok (.aload_n 3, 1) := dk_45 (dk_at dksX9_isUsed_0 21 rfl rfl)
theorem dX9_isUsed_22 : decode cX9_isUsed 22 = .ok (.iload 5, 2) := dk_21 5 (dk_at dksX9_isUsed_0 22 rfl rfl)
theorem dX9_isUsed_24 : decode cX9_isUsed 24 = .ok (.aaload, 1) := dk_50 (dk_at dksX9_isUsed_1 0 rfl rfl)
theorem dX9_isUsed_25 : decode cX9_isUsed 25 = .ok (.astore 6, 2) := dk_58 6 (dk_at dksX9_isUsed_1 1 rfl rfl)
theorem dX9_isUsed_27 : decode cX9_isUsed 27 = .ok (.iload_n 2, 1) := dk_28 (dk_at dksX9_isUsed_1 3 rfl rfl)
theorem dX9_isUsed_28 : decode cX9_isUsed 28 = .ok (.aload 6, 2) := dk_25 6 (dk_at dksX9_isUsed_1 4 rfl rfl)
theorem dX9_isUsed_30 : decode cX9_isUsed 30 = .ok (.iload_n 1, 1) := dk_27 (dk_at dksX9_isUsed_1 6 rfl rfl)
theorem dX9_isUsed_31 : decode cX9_isUsed 31 = .ok (.invokevirtual 55, 3) := dk_182 0 55 (dk_at dksX9_isUsed_1 7 rfl rfl)
theorem dX9_isUsed_34 : decode cX9_isUsed 34 = .ok (.ior, 1) := dk_128 (dk_at dksX9_isUsed_1 10 rfl rfl)
theorem dX9_isUsed_35 : decode cX9_isUsed 35 = .ok (.istore_n 2, 1) := dk_61 (dk_at dksX9_isUsed_1 11 rfl rfl)
theorem dX9_isUsed_36 : decode cX9_isUsed 36 = .ok (.iinc 5 1, 3) := dk_132 5 1 (dk_at dksX9_isUsed_1 12 rfl rfl)
theorem dX9_isUsed_39 : decode cX9_isUsed 39 = .ok (.goto (-25), 3) := dk_167 255 231 (dk_at dksX9_isUsed_1 15 rfl rfl)
theorem dX9_isUsed_42 : decode cX9_isUsed 42 = .ok (.iload_n 2, 1) := dk_28 (dk_at dksX9_isUsed_1 18 rfl rfl)
theorem dX9_isUsed_43 : decode cX9_isUsed 43 = .ok (.ireturn, 1) := dk_172 (dk_at dksX9_isUsed_1 19 rfl rfl)
abbrev cX9_withoutEdge : ByteArray := prog_3_method_6_code
def yX9_withoutEdge : MethodName := ⟨RX9, "withoutEdge", "(I)LChainParts$Complex;"⟩
def dkwX9_withoutEdge_7 : List UInt8 := [187, 0, 10, 89, 42, 180, 0, 9, 44, 45, 25, 4, 183, 0, 41, 176]
abbrev dktX9_withoutEdge_7 : List UInt8 := dkwX9_withoutEdge_7 ++ []
def dkwX9_withoutEdge_6 : List UInt8 := [21, 6, 167, 0, 7, 21, 6, 4, 96, 46, 79, 132, 6, 1, 167, 255, 215, 132, 5, 1, 167, 255, 200]
abbrev dktX9_withoutEdge_6 : List UInt8 := dkwX9_withoutEdge_6 ++ dktX9_withoutEdge_7
def dkwX9_withoutEdge_5 : List UInt8 := [162, 0, 40, 25, 4, 21, 5, 50, 21, 6, 42, 180, 0, 23, 21, 5, 50, 21, 6, 27, 162, 0, 8]
abbrev dktX9_withoutEdge_5 : List UInt8 := dkwX9_withoutEdge_5 ++ dktX9_withoutEdge_6
def dkwX9_withoutEdge_4 : List UInt8 := [197, 0, 47, 2, 58, 4, 3, 54, 5, 21, 5, 6, 162, 0, 56, 3, 54, 6, 21, 6, 44, 190]
abbrev dktX9_withoutEdge_4 : List UInt8 := dkwX9_withoutEdge_4 ++ dktX9_withoutEdge_5
def dkwX9_withoutEdge_3 : List UInt8 := [42, 180, 0, 19, 21, 4, 50, 27, 182, 0, 51, 83, 132, 4, 1, 167, 255, 228, 6, 16, 6]
abbrev dktX9_withoutEdge_3 : List UInt8 := dkwX9_withoutEdge_3 ++ dktX9_withoutEdge_4
def dkwX9_withoutEdge_2 : List UInt8 := [180, 0, 19, 190, 189, 0, 44, 78, 3, 54, 4, 21, 4, 42, 180, 0, 19, 190, 162, 0, 24, 45, 21, 4]
abbrev dktX9_withoutEdge_2 : List UInt8 := dkwX9_withoutEdge_2 ++ dktX9_withoutEdge_3
def dkwX9_withoutEdge_1 : List UInt8 := [180, 0, 15, 29, 27, 162, 0, 7, 29, 167, 0, 6, 29, 4, 96, 50, 83, 132, 3, 1, 167, 255, 227, 42]
abbrev dktX9_withoutEdge_1 : List UInt8 := dkwX9_withoutEdge_1 ++ dktX9_withoutEdge_2
def dkwX9_withoutEdge_0 : List UInt8 := [42, 180, 0, 15, 190, 4, 100, 189, 0, 33, 77, 3, 62, 29, 44, 190, 162, 0, 29, 44, 29, 42]
abbrev dktX9_withoutEdge_0 : List UInt8 := dkwX9_withoutEdge_0 ++ dktX9_withoutEdge_1
theorem dksX9_withoutEdge_0 : cX9_withoutEdge.data.toList.drop 0 = dktX9_withoutEdge_0 := by decide +kernel
theorem dksX9_withoutEdge_1 : cX9_withoutEdge.data.toList.drop 22 = dktX9_withoutEdge_1 := dk_seg dksX9_withoutEdge_0 22 rfl rfl
theorem dksX9_withoutEdge_2 : cX9_withoutEdge.data.toList.drop 46 = dktX9_withoutEdge_2 := dk_seg dksX9_withoutEdge_1 24 rfl rfl
theorem dksX9_withoutEdge_3 : cX9_withoutEdge.data.toList.drop 70 = dktX9_withoutEdge_3 := dk_seg dksX9_withoutEdge_2 24 rfl rfl
theorem dksX9_withoutEdge_4 : cX9_withoutEdge.data.toList.drop 91 = dktX9_withoutEdge_4 := dk_seg dksX9_withoutEdge_3 21 rfl rfl
theorem dksX9_withoutEdge_5 : cX9_withoutEdge.data.toList.drop 113 = dktX9_withoutEdge_5 := dk_seg dksX9_withoutEdge_4 22 rfl rfl
theorem dksX9_withoutEdge_6 : cX9_withoutEdge.data.toList.drop 136 = dktX9_withoutEdge_6 := dk_seg dksX9_withoutEdge_5 23 rfl rfl
theorem dksX9_withoutEdge_7 : cX9_withoutEdge.data.toList.drop 159 = dktX9_withoutEdge_7 := dk_seg dksX9_withoutEdge_6 23 rfl rfl
theorem dX9_withoutEdge_0 : decode cX9_withoutEdge 0 = .ok (.aload_n 0, 1) := dk_42 (dk_at dksX9_withoutEdge_0 0 rfl rfl)
theorem dX9_withoutEdge_1 : decode cX9_withoutEdge 1 = .ok (.getfield 15, 3) := dk_180 0 15 (dk_at dksX9_withoutEdge_0 1 rfl rfl)
theorem dX9_withoutEdge_4 : decode cX9_withoutEdge 4 = .ok (.arraylength, 1) := dk_190 (dk_at dksX9_withoutEdge_0 4 rfl rfl)
theorem dX9_withoutEdge_5 : decode cX9_withoutEdge 5 = .ok (.iconst 1, 1) := dk_4 (dk_at dksX9_withoutEdge_0 5 rfl rfl)
theorem dX9_withoutEdge_6 : decode cX9_withoutEdge 6 = .ok (.isub, 1) := dk_100 (dk_at dksX9_withoutEdge_0 6 rfl rfl)
theorem dX9_withoutEdge_7 : decode cX9_withoutEdge 7 = .ok (.anewarray 33, 3) := dk_189 0 33 (dk_at dksX9_withoutEdge_0 7 rfl rfl)
theorem dX9_withoutEdge_10 : decode cX9_withoutEdge 10 = .ok (.astore_n 2, 1) := dk_77 (dk_at dksX9_withoutEdge_0 10 rfl rfl)
theorem dX9_withoutEdge_11 : decode cX9_withoutEdge 11 = .ok (.iconst 0, 1) := dk_3 (dk_at dksX9_withoutEdge_0 11 rfl rfl)
theorem dX9_withoutEdge_12 : decode cX9_withoutEdge 12 = .ok (.istore_n 3, 1) := dk_62 (dk_at dksX9_withoutEdge_0 12 rfl rfl)
theorem dX9_withoutEdge_13 : decode cX9_withoutEdge 13 = .ok (.iload_n 3, 1) := dk_29 (dk_at dksX9_withoutEdge_0 13 rfl rfl)
theorem dX9_withoutEdge_14 : decode cX9_withoutEdge 14 = .ok (.aload_n 2, 1) := dk_44 (dk_at dksX9_withoutEdge_0 14 rfl rfl)
theorem dX9_withoutEdge_15 : decode cX9_withoutEdge 15 = .ok (.arraylength, 1) := dk_190 (dk_at dksX9_withoutEdge_0 15 rfl rfl)
theorem dX9_withoutEdge_16 : decode cX9_withoutEdge 16 = .ok (.if_icmp .ge 29, 3) := dk_162 0 29 (dk_at dksX9_withoutEdge_0 16 rfl rfl)
theorem dX9_withoutEdge_19 : decode cX9_withoutEdge 19 = .ok (.aload_n 2, 1) := dk_44 (dk_at dksX9_withoutEdge_0 19 rfl rfl)
theorem dX9_withoutEdge_20 : decode cX9_withoutEdge 20 = .ok (.iload_n 3, 1) := dk_29 (dk_at dksX9_withoutEdge_0 20 rfl rfl)
theorem dX9_withoutEdge_21 : decode cX9_withoutEdge 21 = .ok (.aload_n 0, 1) := dk_42 (dk_at dksX9_withoutEdge_0 21 rfl rfl)
theorem dX9_withoutEdge_22 : decode cX9_withoutEdge 22 = .ok (.getfield 15, 3) := dk_180 0 15 (dk_at dksX9_withoutEdge_1 0 rfl rfl)
theorem dX9_withoutEdge_25 : decode cX9_withoutEdge 25 = .ok (.iload_n 3, 1) := dk_29 (dk_at dksX9_withoutEdge_1 3 rfl rfl)
theorem dX9_withoutEdge_26 : decode cX9_withoutEdge 26 = .ok (.iload_n 1, 1) := dk_27 (dk_at dksX9_withoutEdge_1 4 rfl rfl)
theorem dX9_withoutEdge_27 : decode cX9_withoutEdge 27 = .ok (.if_icmp .ge 7, 3) := dk_162 0 7 (dk_at dksX9_withoutEdge_1 5 rfl rfl)
theorem dX9_withoutEdge_30 : decode cX9_withoutEdge 30 = .ok (.iload_n 3, 1) := dk_29 (dk_at dksX9_withoutEdge_1 8 rfl rfl)
theorem dX9_withoutEdge_31 : decode cX9_withoutEdge 31 = .ok (.goto 6, 3) := dk_167 0 6 (dk_at dksX9_withoutEdge_1 9 rfl rfl)
theorem dX9_withoutEdge_34 : decode cX9_withoutEdge 34 = .ok (.iload_n 3, 1) := dk_29 (dk_at dksX9_withoutEdge_1 12 rfl rfl)
theorem dX9_withoutEdge_35 : decode cX9_withoutEdge 35 = .ok (.iconst 1, 1) := dk_4 (dk_at dksX9_withoutEdge_1 13 rfl rfl)
theorem dX9_withoutEdge_36 : decode cX9_withoutEdge 36 = .ok (.iadd, 1) := dk_96 (dk_at dksX9_withoutEdge_1 14 rfl rfl)
theorem dX9_withoutEdge_37 : decode cX9_withoutEdge 37 = .ok (.aaload, 1) := dk_50 (dk_at dksX9_withoutEdge_1 15 rfl rfl)
theorem dX9_withoutEdge_38 : decode cX9_withoutEdge 38 = .ok (.aastore, 1) := dk_83 (dk_at dksX9_withoutEdge_1 16 rfl rfl)
theorem dX9_withoutEdge_39 : decode cX9_withoutEdge 39 = .ok (.iinc 3 1, 3) := dk_132 3 1 (dk_at dksX9_withoutEdge_1 17 rfl rfl)
theorem dX9_withoutEdge_42 : decode cX9_withoutEdge 42 = .ok (.goto (-29), 3) := dk_167 255 227 (dk_at dksX9_withoutEdge_1 20 rfl rfl)
theorem dX9_withoutEdge_45 : decode cX9_withoutEdge 45 = .ok (.aload_n 0, 1) := dk_42 (dk_at dksX9_withoutEdge_1 23 rfl rfl)
theorem dX9_withoutEdge_46 : decode cX9_withoutEdge 46 = .ok (.getfield 19, 3) := dk_180 0 19 (dk_at dksX9_withoutEdge_2 0 rfl rfl)
theorem dX9_withoutEdge_49 : decode cX9_withoutEdge 49 = .ok (.arraylength, 1) := dk_190 (dk_at dksX9_withoutEdge_2 3 rfl rfl)
theorem dX9_withoutEdge_50 : decode cX9_withoutEdge 50 = .ok (.anewarray 44, 3) := dk_189 0 44 (dk_at dksX9_withoutEdge_2 4 rfl rfl)
theorem dX9_withoutEdge_53 : decode cX9_withoutEdge 53 = .ok (.astore_n 3, 1) := dk_78 (dk_at dksX9_withoutEdge_2 7 rfl rfl)
theorem dX9_withoutEdge_54 : decode cX9_withoutEdge 54 = .ok (.iconst 0, 1) := dk_3 (dk_at dksX9_withoutEdge_2 8 rfl rfl)
theorem dX9_withoutEdge_55 : decode cX9_withoutEdge 55 = .ok (.istore 4, 2) := dk_54 4 (dk_at dksX9_withoutEdge_2 9 rfl rfl)
theorem dX9_withoutEdge_57 : decode cX9_withoutEdge 57 = .ok (.iload 4, 2) := dk_21 4 (dk_at dksX9_withoutEdge_2 11 rfl rfl)
theorem dX9_withoutEdge_59 : decode cX9_withoutEdge 59 = .ok (.aload_n 0, 1) := dk_42 (dk_at dksX9_withoutEdge_2 13 rfl rfl)
theorem dX9_withoutEdge_60 : decode cX9_withoutEdge 60 = .ok (.getfield 19, 3) := dk_180 0 19 (dk_at dksX9_withoutEdge_2 14 rfl rfl)
theorem dX9_withoutEdge_63 : decode cX9_withoutEdge 63 = .ok (.arraylength, 1) := dk_190 (dk_at dksX9_withoutEdge_2 17 rfl rfl)
theorem dX9_withoutEdge_64 : decode cX9_withoutEdge 64 = .ok (.if_icmp .ge 24, 3) := dk_162 0 24 (dk_at dksX9_withoutEdge_2 18 rfl rfl)
theorem dX9_withoutEdge_67 : decode cX9_withoutEdge 67 = .ok (.aload_n 3, 1) := dk_45 (dk_at dksX9_withoutEdge_2 21 rfl rfl)
theorem dX9_withoutEdge_68 : decode cX9_withoutEdge 68 = .ok (.iload 4, 2) := dk_21 4 (dk_at dksX9_withoutEdge_2 22 rfl rfl)
theorem dX9_withoutEdge_70 : decode cX9_withoutEdge 70 = .ok (.aload_n 0, 1) := dk_42 (dk_at dksX9_withoutEdge_3 0 rfl rfl)
theorem dX9_withoutEdge_71 : decode cX9_withoutEdge 71 = .ok (.getfield 19, 3) := dk_180 0 19 (dk_at dksX9_withoutEdge_3 1 rfl rfl)
theorem dX9_withoutEdge_74 : decode cX9_withoutEdge 74 = .ok (.iload 4, 2) := dk_21 4 (dk_at dksX9_withoutEdge_3 4 rfl rfl)
theorem dX9_withoutEdge_76 : decode cX9_withoutEdge 76 = .ok (.aaload, 1) := dk_50 (dk_at dksX9_withoutEdge_3 6 rfl rfl)
theorem dX9_withoutEdge_77 : decode cX9_withoutEdge 77 = .ok (.iload_n 1, 1) := dk_27 (dk_at dksX9_withoutEdge_3 7 rfl rfl)
theorem dX9_withoutEdge_78 : decode cX9_withoutEdge 78 = .ok (.invokevirtual 51, 3) := dk_182 0 51 (dk_at dksX9_withoutEdge_3 8 rfl rfl)
theorem dX9_withoutEdge_81 : decode cX9_withoutEdge 81 = .ok (.aastore, 1) := dk_83 (dk_at dksX9_withoutEdge_3 11 rfl rfl)
theorem dX9_withoutEdge_82 : decode cX9_withoutEdge 82 = .ok (.iinc 4 1, 3) := dk_132 4 1 (dk_at dksX9_withoutEdge_3 12 rfl rfl)
theorem dX9_withoutEdge_85 : decode cX9_withoutEdge 85 = .ok (.goto (-28), 3) := dk_167 255 228 (dk_at dksX9_withoutEdge_3 15 rfl rfl)
theorem dX9_withoutEdge_88 : decode cX9_withoutEdge 88 = .ok (.iconst 3, 1) := dk_6 (dk_at dksX9_withoutEdge_3 18 rfl rfl)
theorem dX9_withoutEdge_89 : decode cX9_withoutEdge 89 = .ok (.bipush 6, 2) := dk_16 6 (dk_at dksX9_withoutEdge_3 19 rfl rfl)
theorem dX9_withoutEdge_91 : decode cX9_withoutEdge 91 = .ok (.multianewarray 47 2, 4) := by decide +kernel
theorem dX9_withoutEdge_95 : decode cX9_withoutEdge 95 = .ok (.astore 4, 2) := dk_58 4 (dk_at dksX9_withoutEdge_4 4 rfl rfl)
theorem dX9_withoutEdge_97 : decode cX9_withoutEdge 97 = .ok (.iconst 0, 1) := dk_3 (dk_at dksX9_withoutEdge_4 6 rfl rfl)
theorem dX9_withoutEdge_98 : decode cX9_withoutEdge 98 = .ok (.istore 5, 2) := dk_54 5 (dk_at dksX9_withoutEdge_4 7 rfl rfl)
theorem dX9_withoutEdge_100 : decode cX9_withoutEdge 100 = .ok (.iload 5, 2) := dk_21 5 (dk_at dksX9_withoutEdge_4 9 rfl rfl)
theorem dX9_withoutEdge_102 : decode cX9_withoutEdge 102 = .ok (.iconst 3, 1) := dk_6 (dk_at dksX9_withoutEdge_4 11 rfl rfl)
theorem dX9_withoutEdge_103 : decode cX9_withoutEdge 103 = .ok (.if_icmp .ge 56, 3) := dk_162 0 56 (dk_at dksX9_withoutEdge_4 12 rfl rfl)
theorem dX9_withoutEdge_106 : decode cX9_withoutEdge 106 = .ok (.iconst 0, 1) := dk_3 (dk_at dksX9_withoutEdge_4 15 rfl rfl)
theorem dX9_withoutEdge_107 : decode cX9_withoutEdge 107 = .ok (.istore 6, 2) := dk_54 6 (dk_at dksX9_withoutEdge_4 16 rfl rfl)
theorem dX9_withoutEdge_109 : decode cX9_withoutEdge 109 = .ok (.iload 6, 2) := dk_21 6 (dk_at dksX9_withoutEdge_4 18 rfl rfl)
theorem dX9_withoutEdge_111 : decode cX9_withoutEdge 111 = .ok (.aload_n 2, 1) := dk_44 (dk_at dksX9_withoutEdge_4 20 rfl rfl)
theorem dX9_withoutEdge_112 : decode cX9_withoutEdge 112 = .ok (.arraylength, 1) := dk_190 (dk_at dksX9_withoutEdge_4 21 rfl rfl)
theorem dX9_withoutEdge_113 : decode cX9_withoutEdge 113 = .ok (.if_icmp .ge 40, 3) := dk_162 0 40 (dk_at dksX9_withoutEdge_5 0 rfl rfl)
theorem dX9_withoutEdge_116 : decode cX9_withoutEdge 116 = .ok (.aload 4, 2) := dk_25 4 (dk_at dksX9_withoutEdge_5 3 rfl rfl)
theorem dX9_withoutEdge_118 : decode cX9_withoutEdge 118 = .ok (.iload 5, 2) := dk_21 5 (dk_at dksX9_withoutEdge_5 5 rfl rfl)
theorem dX9_withoutEdge_120 : decode cX9_withoutEdge 120 = .ok (.aaload, 1) := dk_50 (dk_at dksX9_withoutEdge_5 7 rfl rfl)
theorem dX9_withoutEdge_121 : decode cX9_withoutEdge 121 = .ok (.iload 6, 2) := dk_21 6 (dk_at dksX9_withoutEdge_5 8 rfl rfl)
theorem dX9_withoutEdge_123 : decode cX9_withoutEdge 123 = .ok (.aload_n 0, 1) := dk_42 (dk_at dksX9_withoutEdge_5 10 rfl rfl)
theorem dX9_withoutEdge_124 : decode cX9_withoutEdge 124 = .ok (.getfield 23, 3) := dk_180 0 23 (dk_at dksX9_withoutEdge_5 11 rfl rfl)
theorem dX9_withoutEdge_127 : decode cX9_withoutEdge 127 = .ok (.iload 5, 2) := dk_21 5 (dk_at dksX9_withoutEdge_5 14 rfl rfl)
theorem dX9_withoutEdge_129 : decode cX9_withoutEdge 129 = .ok (.aaload, 1) := dk_50 (dk_at dksX9_withoutEdge_5 16 rfl rfl)
theorem dX9_withoutEdge_130 : decode cX9_withoutEdge 130 = .ok (.iload 6, 2) := dk_21 6 (dk_at dksX9_withoutEdge_5 17 rfl rfl)
theorem dX9_withoutEdge_132 : decode cX9_withoutEdge 132 = .ok (.iload_n 1, 1) := dk_27 (dk_at dksX9_withoutEdge_5 19 rfl rfl)
theorem dX9_withoutEdge_133 : decode cX9_withoutEdge 133 = .ok (.if_icmp .ge 8, 3) := dk_162 0 8 (dk_at dksX9_withoutEdge_5 20 rfl rfl)
theorem dX9_withoutEdge_136 : decode cX9_withoutEdge 136 = .ok (.iload 6, 2) := dk_21 6 (dk_at dksX9_withoutEdge_6 0 rfl rfl)
theorem dX9_withoutEdge_138 : decode cX9_withoutEdge 138 = .ok (.goto 7, 3) := dk_167 0 7 (dk_at dksX9_withoutEdge_6 2 rfl rfl)
theorem dX9_withoutEdge_141 : decode cX9_withoutEdge 141 = .ok (.iload 6, 2) := dk_21 6 (dk_at dksX9_withoutEdge_6 5 rfl rfl)
theorem dX9_withoutEdge_143 : decode cX9_withoutEdge 143 = .ok (.iconst 1, 1) := dk_4 (dk_at dksX9_withoutEdge_6 7 rfl rfl)
theorem dX9_withoutEdge_144 : decode cX9_withoutEdge 144 = .ok (.iadd, 1) := dk_96 (dk_at dksX9_withoutEdge_6 8 rfl rfl)
theorem dX9_withoutEdge_145 : decode cX9_withoutEdge 145 = .ok (.iaload, 1) := dk_46 (dk_at dksX9_withoutEdge_6 9 rfl rfl)
theorem dX9_withoutEdge_146 : decode cX9_withoutEdge 146 = .ok (.iastore, 1) := dk_79 (dk_at dksX9_withoutEdge_6 10 rfl rfl)
theorem dX9_withoutEdge_147 : decode cX9_withoutEdge 147 = .ok (.iinc 6 1, 3) := dk_132 6 1 (dk_at dksX9_withoutEdge_6 11 rfl rfl)
theorem dX9_withoutEdge_150 : decode cX9_withoutEdge 150 = .ok (.goto (-41), 3) := dk_167 255 215 (dk_at dksX9_withoutEdge_6 14 rfl rfl)
theorem dX9_withoutEdge_153 : decode cX9_withoutEdge 153 = .ok (.iinc 5 1, 3) := dk_132 5 1 (dk_at dksX9_withoutEdge_6 17 rfl rfl)
theorem dX9_withoutEdge_156 : decode cX9_withoutEdge 156 = .ok (.goto (-56), 3) := dk_167 255 200 (dk_at dksX9_withoutEdge_6 20 rfl rfl)
theorem dX9_withoutEdge_159 : decode cX9_withoutEdge 159 = .ok (.new 10, 3) := dk_187 0 10 (dk_at dksX9_withoutEdge_7 0 rfl rfl)
theorem dX9_withoutEdge_162 : decode cX9_withoutEdge 162 = .ok (.dup, 1) := dk_89 (dk_at dksX9_withoutEdge_7 3 rfl rfl)
theorem dX9_withoutEdge_163 : decode cX9_withoutEdge 163 = .ok (.aload_n 0, 1) := dk_42 (dk_at dksX9_withoutEdge_7 4 rfl rfl)
theorem dX9_withoutEdge_164 : decode cX9_withoutEdge 164 = .ok (.getfield 9, 3) := dk_180 0 9 (dk_at dksX9_withoutEdge_7 5 rfl rfl)
theorem dX9_withoutEdge_167 : decode cX9_withoutEdge 167 = .ok (.aload_n 2, 1) := dk_44 (dk_at dksX9_withoutEdge_7 8 rfl rfl)
theorem dX9_withoutEdge_168 : decode cX9_withoutEdge 168 = .ok (.aload_n 3, 1) := dk_45 (dk_at dksX9_withoutEdge_7 9 rfl rfl)
theorem dX9_withoutEdge_169 : decode cX9_withoutEdge 169 = .ok (.aload 4, 2) := dk_25 4 (dk_at dksX9_withoutEdge_7 10 rfl rfl)
theorem dX9_withoutEdge_171 : decode cX9_withoutEdge 171 = .ok (.invokespecial 41, 3) := dk_183 0 41 (dk_at dksX9_withoutEdge_7 12 rfl rfl)
theorem dX9_withoutEdge_174 : decode cX9_withoutEdge 174 = .ok (.areturn, 1) := dk_176 (dk_at dksX9_withoutEdge_7 15 rfl rfl)
abbrev cX9_withoutFace : ByteArray := prog_3_method_5_code
def yX9_withoutFace : MethodName := ⟨RX9, "withoutFace", "(I)LChainParts$Complex;"⟩
def dkwX9_withoutFace_2 : List UInt8 := [187, 0, 10, 89, 42, 180, 0, 9, 42, 180, 0, 15, 44, 42, 180, 0, 23, 183, 0, 41, 176]
abbrev dktX9_withoutFace_2 : List UInt8 := dkwX9_withoutFace_2 ++ []
def dkwX9_withoutFace_1 : List UInt8 := [180, 0, 19, 29, 27, 162, 0, 7, 29, 167, 0, 6, 29, 4, 96, 50, 83, 132, 3, 1, 167, 255, 227]
abbrev dktX9_withoutFace_1 : List UInt8 := dkwX9_withoutFace_1 ++ dktX9_withoutFace_2
def dkwX9_withoutFace_0 : List UInt8 := [42, 180, 0, 19, 190, 4, 100, 189, 0, 44, 77, 3, 62, 29, 44, 190, 162, 0, 29, 44, 29, 42]
abbrev dktX9_withoutFace_0 : List UInt8 := dkwX9_withoutFace_0 ++ dktX9_withoutFace_1
theorem dksX9_withoutFace_0 : cX9_withoutFace.data.toList.drop 0 = dktX9_withoutFace_0 := by decide +kernel
theorem dksX9_withoutFace_1 : cX9_withoutFace.data.toList.drop 22 = dktX9_withoutFace_1 := dk_seg dksX9_withoutFace_0 22 rfl rfl
theorem dksX9_withoutFace_2 : cX9_withoutFace.data.toList.drop 45 = dktX9_withoutFace_2 := dk_seg dksX9_withoutFace_1 23 rfl rfl
theorem dX9_withoutFace_0 : decode cX9_withoutFace 0 = .ok (.aload_n 0, 1) := dk_42 (dk_at dksX9_withoutFace_0 0 rfl rfl)
theorem dX9_withoutFace_1 : decode cX9_withoutFace 1 = .ok (.getfield 19, 3) := dk_180 0 19 (dk_at dksX9_withoutFace_0 1 rfl rfl)
theorem dX9_withoutFace_4 : decode cX9_withoutFace 4 = .ok (.arraylength, 1) := dk_190 (dk_at dksX9_withoutFace_0 4 rfl rfl)
theorem dX9_withoutFace_5 : decode cX9_withoutFace 5 = .ok (.iconst 1, 1) := dk_4 (dk_at dksX9_withoutFace_0 5 rfl rfl)
theorem dX9_withoutFace_6 : decode cX9_withoutFace 6 = .ok (.isub, 1) := dk_100 (dk_at dksX9_withoutFace_0 6 rfl rfl)
theorem dX9_withoutFace_7 : decode cX9_withoutFace 7 = .ok (.anewarray 44, 3) := dk_189 0 44 (dk_at dksX9_withoutFace_0 7 rfl rfl)
theorem dX9_withoutFace_10 : decode cX9_withoutFace 10 = .ok (.astore_n 2, 1) := dk_77 (dk_at dksX9_withoutFace_0 10 rfl rfl)
theorem dX9_withoutFace_11 : decode cX9_withoutFace 11 = .ok (.iconst 0, 1) := dk_3 (dk_at dksX9_withoutFace_0 11 rfl rfl)
theorem dX9_withoutFace_12 : decode cX9_withoutFace 12 = .ok (.istore_n 3, 1) := dk_62 (dk_at dksX9_withoutFace_0 12 rfl rfl)
theorem dX9_withoutFace_13 : decode cX9_withoutFace 13 = .ok (.iload_n 3, 1) := dk_29 (dk_at dksX9_withoutFace_0 13 rfl rfl)
theorem dX9_withoutFace_14 : decode cX9_withoutFace 14 = .ok (.aload_n 2, 1) := dk_44 (dk_at dksX9_withoutFace_0 14 rfl rfl)
theorem dX9_withoutFace_15 : decode cX9_withoutFace 15 = .ok (.arraylength, 1) := dk_190 (dk_at dksX9_withoutFace_0 15 rfl rfl)
theorem dX9_withoutFace_16 : decode cX9_withoutFace 16 = .ok (.if_icmp .ge 29, 3) := dk_162 0 29 (dk_at dksX9_withoutFace_0 16 rfl rfl)
theorem dX9_withoutFace_19 : decode cX9_withoutFace 19 = .ok (.aload_n 2, 1) := dk_44 (dk_at dksX9_withoutFace_0 19 rfl rfl)
theorem dX9_withoutFace_20 : decode cX9_withoutFace 20 = .ok (.iload_n 3, 1) := dk_29 (dk_at dksX9_withoutFace_0 20 rfl rfl)
theorem dX9_withoutFace_21 : decode cX9_withoutFace 21 = .ok (.aload_n 0, 1) := dk_42 (dk_at dksX9_withoutFace_0 21 rfl rfl)
theorem dX9_withoutFace_22 : decode cX9_withoutFace 22 = .ok (.getfield 19, 3) := dk_180 0 19 (dk_at dksX9_withoutFace_1 0 rfl rfl)
theorem dX9_withoutFace_25 : decode cX9_withoutFace 25 = .ok (.iload_n 3, 1) := dk_29 (dk_at dksX9_withoutFace_1 3 rfl rfl)
theorem dX9_withoutFace_26 : decode cX9_withoutFace 26 = .ok (.iload_n 1, 1) := dk_27 (dk_at dksX9_withoutFace_1 4 rfl rfl)
theorem dX9_withoutFace_27 : decode cX9_withoutFace 27 = .ok (.if_icmp .ge 7, 3) := dk_162 0 7 (dk_at dksX9_withoutFace_1 5 rfl rfl)
theorem dX9_withoutFace_30 : decode cX9_withoutFace 30 = .ok (.iload_n 3, 1) := dk_29 (dk_at dksX9_withoutFace_1 8 rfl rfl)
theorem dX9_withoutFace_31 : decode cX9_withoutFace 31 = .ok (.goto 6, 3) := dk_167 0 6 (dk_at dksX9_withoutFace_1 9 rfl rfl)
theorem dX9_withoutFace_34 : decode cX9_withoutFace 34 = .ok (.iload_n 3, 1) := dk_29 (dk_at dksX9_withoutFace_1 12 rfl rfl)
theorem dX9_withoutFace_35 : decode cX9_withoutFace 35 = .ok (.iconst 1, 1) := dk_4 (dk_at dksX9_withoutFace_1 13 rfl rfl)
theorem dX9_withoutFace_36 : decode cX9_withoutFace 36 = .ok (.iadd, 1) := dk_96 (dk_at dksX9_withoutFace_1 14 rfl rfl)
theorem dX9_withoutFace_37 : decode cX9_withoutFace 37 = .ok (.aaload, 1) := dk_50 (dk_at dksX9_withoutFace_1 15 rfl rfl)
theorem dX9_withoutFace_38 : decode cX9_withoutFace 38 = .ok (.aastore, 1) := dk_83 (dk_at dksX9_withoutFace_1 16 rfl rfl)
theorem dX9_withoutFace_39 : decode cX9_withoutFace 39 = .ok (.iinc 3 1, 3) := dk_132 3 1 (dk_at dksX9_withoutFace_1 17 rfl rfl)
theorem dX9_withoutFace_42 : decode cX9_withoutFace 42 = .ok (.goto (-29), 3) := dk_167 255 227 (dk_at dksX9_withoutFace_1 20 rfl rfl)
theorem dX9_withoutFace_45 : decode cX9_withoutFace 45 = .ok (.new 10, 3) := dk_187 0 10 (dk_at dksX9_withoutFace_2 0 rfl rfl)
theorem dX9_withoutFace_48 : decode cX9_withoutFace 48 = .ok (.dup, 1) := dk_89 (dk_at dksX9_withoutFace_2 3 rfl rfl)
theorem dX9_withoutFace_49 : decode cX9_withoutFace 49 = .ok (.aload_n 0, 1) := dk_42 (dk_at dksX9_withoutFace_2 4 rfl rfl)
theorem dX9_withoutFace_50 : decode cX9_withoutFace 50 = .ok (.getfield 9, 3) := dk_180 0 9 (dk_at dksX9_withoutFace_2 5 rfl rfl)
theorem dX9_withoutFace_53 : decode cX9_withoutFace 53 = .ok (.aload_n 0, 1) := dk_42 (dk_at dksX9_withoutFace_2 8 rfl rfl)
theorem dX9_withoutFace_54 : decode cX9_withoutFace 54 = .ok (.getfield 15, 3) := dk_180 0 15 (dk_at dksX9_withoutFace_2 9 rfl rfl)
theorem dX9_withoutFace_57 : decode cX9_withoutFace 57 = .ok (.aload_n 2, 1) := dk_44 (dk_at dksX9_withoutFace_2 12 rfl rfl)
theorem dX9_withoutFace_58 : decode cX9_withoutFace 58 = .ok (.aload_n 0, 1) := dk_42 (dk_at dksX9_withoutFace_2 13 rfl rfl)
theorem dX9_withoutFace_59 : decode cX9_withoutFace 59 = .ok (.getfield 23, 3) := dk_180 0 23 (dk_at dksX9_withoutFace_2 14 rfl rfl)
theorem dX9_withoutFace_62 : decode cX9_withoutFace 62 = .ok (.invokespecial 41, 3) := dk_183 0 41 (dk_at dksX9_withoutFace_2 17 rfl rfl)
theorem dX9_withoutFace_65 : decode cX9_withoutFace 65 = .ok (.areturn, 1) := dk_176 (dk_at dksX9_withoutFace_2 20 rfl rfl)
abbrev cX9_withChain : ByteArray := prog_3_method_4_code
def yX9_withChain : MethodName := ⟨RX9, "withChain", "(I[I)LChainParts$Complex;"⟩
def dkwX9_withChain_1 : List UInt8 := [180, 0, 15, 42, 180, 0, 19, 45, 183, 0, 41, 176]
abbrev dktX9_withChain_1 : List UInt8 := dkwX9_withChain_1 ++ []
def dkwX9_withChain_0 : List UInt8 := [42, 180, 0, 23, 182, 0, 46, 192, 0, 47, 78, 45, 27, 44, 83, 187, 0, 10, 89, 42, 180, 0, 9, 42]
abbrev dktX9_withChain_0 : List UInt8 := dkwX9_withChain_0 ++ dktX9_withChain_1
theorem dksX9_withChain_0 : cX9_withChain.data.toList.drop 0 = dktX9_withChain_0 := by decide +kernel
theorem dksX9_withChain_1 : cX9_withChain.data.toList.drop 24 = dktX9_withChain_1 := dk_seg dksX9_withChain_0 24 rfl rfl
theorem dX9_withChain_0 : decode cX9_withChain 0 = .ok (.aload_n 0, 1) := dk_42 (dk_at dksX9_withChain_0 0 rfl rfl)
theorem dX9_withChain_1 : decode cX9_withChain 1 = .ok (.getfield 23, 3) := dk_180 0 23 (dk_at dksX9_withChain_0 1 rfl rfl)
theorem dX9_withChain_4 : decode cX9_withChain 4 = .ok (.invokevirtual 46, 3) := dk_182 0 46 (dk_at dksX9_withChain_0 4 rfl rfl)
theorem dX9_withChain_7 : decode cX9_withChain 7 = .ok (.checkcast 47, 3) := dk_192 0 47 (dk_at dksX9_withChain_0 7 rfl rfl)
theorem dX9_withChain_10 : decode cX9_withChain 10 = .ok (.astore_n 3, 1) := dk_78 (dk_at dksX9_withChain_0 10 rfl rfl)
theorem dX9_withChain_11 : decode cX9_withChain 11 = .ok (.aload_n 3, 1) := dk_45 (dk_at dksX9_withChain_0 11 rfl rfl)
theorem dX9_withChain_12 : decode cX9_withChain 12 = .ok (.iload_n 1, 1) := dk_27 (dk_at dksX9_withChain_0 12 rfl rfl)
theorem dX9_withChain_13 : decode cX9_withChain 13 = .ok (.aload_n 2, 1) := dk_44 (dk_at dksX9_withChain_0 13 rfl rfl)
theorem dX9_withChain_14 : decode cX9_withChain 14 = .ok (.aastore, 1) := dk_83 (dk_at dksX9_withChain_0 14 rfl rfl)
theorem dX9_withChain_15 : decode cX9_withChain 15 = .ok (.new 10, 3) := dk_187 0 10 (dk_at dksX9_withChain_0 15 rfl rfl)
theorem dX9_withChain_18 : decode cX9_withChain 18 = .ok (.dup, 1) := dk_89 (dk_at dksX9_withChain_0 18 rfl rfl)
theorem dX9_withChain_19 : decode cX9_withChain 19 = .ok (.aload_n 0, 1) := dk_42 (dk_at dksX9_withChain_0 19 rfl rfl)
theorem dX9_withChain_20 : decode cX9_withChain 20 = .ok (.getfield 9, 3) := dk_180 0 9 (dk_at dksX9_withChain_0 20 rfl rfl)
theorem dX9_withChain_23 : decode cX9_withChain 23 = .ok (.aload_n 0, 1) := dk_42 (dk_at dksX9_withChain_0 23 rfl rfl)
theorem dX9_withChain_24 : decode cX9_withChain 24 = .ok (.getfield 15, 3) := dk_180 0 15 (dk_at dksX9_withChain_1 0 rfl rfl)
theorem dX9_withChain_27 : decode cX9_withChain 27 = .ok (.aload_n 0, 1) := dk_42 (dk_at dksX9_withChain_1 3 rfl rfl)
theorem dX9_withChain_28 : decode cX9_withChain 28 = .ok (.getfield 19, 3) := dk_180 0 19 (dk_at dksX9_withChain_1 4 rfl rfl)
theorem dX9_withChain_31 : decode cX9_withChain 31 = .ok (.aload_n 3, 1) := dk_45 (dk_at dksX9_withChain_1 7 rfl rfl)
theorem dX9_withChain_32 : decode cX9_withChain 32 = .ok (.invokespecial 41, 3) := dk_183 0 41 (dk_at dksX9_withChain_1 8 rfl rfl)
theorem dX9_withChain_35 : decode cX9_withChain 35 = .ok (.areturn, 1) := dk_176 (dk_at dksX9_withChain_1 11 rfl rfl)
abbrev cX9_table : ByteArray := prog_3_method_8_code
def yX9_table : MethodName := ⟨RX9, "table", "(I)LChainParts$Table;"⟩
def dkwX9_table_6 : List UInt8 := [132, 3, 1, 167, 255, 156, 44, 176]
abbrev dktX9_table_6 : List UInt8 := dkwX9_table_6 ++ []
def dkwX9_table_5 : List UInt8 := [21, 4, 50, 29, 42, 180, 0, 19, 29, 50, 21, 4, 182, 0, 80, 133, 80, 132, 4, 1, 167, 255, 218]
abbrev dktX9_table_5 : List UInt8 := dkwX9_table_5 ++ dktX9_table_6
def dkwX9_table_4 : List UInt8 := [10, 101, 80, 3, 54, 4, 21, 4, 44, 180, 0, 77, 162, 0, 35, 27, 5, 160, 0, 30, 44, 180, 0, 67]
abbrev dktX9_table_4 : List UInt8 := dkwX9_table_4 ++ dktX9_table_5
def dkwX9_table_3 : List UInt8 := [50, 29, 92, 47, 10, 97, 80, 44, 180, 0, 67, 42, 180, 0, 15, 29, 50, 180, 0, 74, 50, 29, 92, 47]
abbrev dktX9_table_3 : List UInt8 := dkwX9_table_3 ++ dktX9_table_4
def dkwX9_table_2 : List UInt8 := [180, 0, 64, 162, 0, 98, 27, 4, 160, 0, 43, 44, 180, 0, 67, 42, 180, 0, 15, 29, 50, 180, 0, 71]
abbrev dktX9_table_2 : List UInt8 := dkwX9_table_2 ++ dktX9_table_3
def dkwX9_table_1 : List UInt8 := [160, 0, 11, 42, 180, 0, 15, 190, 167, 0, 8, 42, 180, 0, 19, 190, 183, 0, 61, 77, 3, 62, 29, 44]
abbrev dktX9_table_1 : List UInt8 := dkwX9_table_1 ++ dktX9_table_2
def dkwX9_table_0 : List UInt8 := [187, 0, 59, 89, 27, 4, 160, 0, 10, 42, 180, 0, 9, 167, 0, 8, 42, 180, 0, 15, 190, 27, 4]
abbrev dktX9_table_0 : List UInt8 := dkwX9_table_0 ++ dktX9_table_1
theorem dksX9_table_0 : cX9_table.data.toList.drop 0 = dktX9_table_0 := by decide +kernel
theorem dksX9_table_1 : cX9_table.data.toList.drop 23 = dktX9_table_1 := dk_seg dksX9_table_0 23 rfl rfl
theorem dksX9_table_2 : cX9_table.data.toList.drop 47 = dktX9_table_2 := dk_seg dksX9_table_1 24 rfl rfl
theorem dksX9_table_3 : cX9_table.data.toList.drop 71 = dktX9_table_3 := dk_seg dksX9_table_2 24 rfl rfl
theorem dksX9_table_4 : cX9_table.data.toList.drop 95 = dktX9_table_4 := dk_seg dksX9_table_3 24 rfl rfl
theorem dksX9_table_5 : cX9_table.data.toList.drop 119 = dktX9_table_5 := dk_seg dksX9_table_4 24 rfl rfl
theorem dksX9_table_6 : cX9_table.data.toList.drop 142 = dktX9_table_6 := dk_seg dksX9_table_5 23 rfl rfl
theorem dX9_table_0 : decode cX9_table 0 = .ok (.new 59, 3) := dk_187 0 59 (dk_at dksX9_table_0 0 rfl rfl)
theorem dX9_table_3 : decode cX9_table 3 = .ok (.dup, 1) := dk_89 (dk_at dksX9_table_0 3 rfl rfl)
theorem dX9_table_4 : decode cX9_table 4 = .ok (.iload_n 1, 1) := dk_27 (dk_at dksX9_table_0 4 rfl rfl)
theorem dX9_table_5 : decode cX9_table 5 = .ok (.iconst 1, 1) := dk_4 (dk_at dksX9_table_0 5 rfl rfl)
theorem dX9_table_6 : decode cX9_table 6 = .ok (.if_icmp .ne 10, 3) := dk_160 0 10 (dk_at dksX9_table_0 6 rfl rfl)
theorem dX9_table_9 : decode cX9_table 9 = .ok (.aload_n 0, 1) := dk_42 (dk_at dksX9_table_0 9 rfl rfl)
theorem dX9_table_10 : decode cX9_table 10 = .ok (.getfield 9, 3) := dk_180 0 9 (dk_at dksX9_table_0 10 rfl rfl)
theorem dX9_table_13 : decode cX9_table 13 = .ok (.goto 8, 3) := dk_167 0 8 (dk_at dksX9_table_0 13 rfl rfl)
theorem dX9_table_16 : decode cX9_table 16 = .ok (.aload_n 0, 1) := dk_42 (dk_at dksX9_table_0 16 rfl rfl)
theorem dX9_table_17 : decode cX9_table 17 = .ok (.getfield 15, 3) := dk_180 0 15 (dk_at dksX9_table_0 17 rfl rfl)
theorem dX9_table_20 : decode cX9_table 20 = .ok (.arraylength, 1) := dk_190 (dk_at dksX9_table_0 20 rfl rfl)
theorem dX9_table_21 : decode cX9_table 21 = .ok (.iload_n 1, 1) := dk_27 (dk_at dksX9_table_0 21 rfl rfl)
theorem dX9_table_22 : decode cX9_table 22 = .ok (.iconst 1, 1) := dk_4 (dk_at dksX9_table_0 22 rfl rfl)
theorem dX9_table_23 : decode cX9_table 23 = .ok (.if_icmp .ne 11, 3) := dk_160 0 11 (dk_at dksX9_table_1 0 rfl rfl)
theorem dX9_table_26 : decode cX9_table 26 = .ok (.aload_n 0, 1) := dk_42 (dk_at dksX9_table_1 3 rfl rfl)
theorem dX9_table_27 : decode cX9_table 27 = .ok (.getfield 15, 3) := dk_180 0 15 (dk_at dksX9_table_1 4 rfl rfl)
theorem dX9_table_30 : decode cX9_table 30 = .ok (.arraylength, 1) := dk_190 (dk_at dksX9_table_1 7 rfl rfl)
theorem dX9_table_31 : decode cX9_table 31 = .ok (.goto 8, 3) := dk_167 0 8 (dk_at dksX9_table_1 8 rfl rfl)
theorem dX9_table_34 : decode cX9_table 34 = .ok (.aload_n 0, 1) := dk_42 (dk_at dksX9_table_1 11 rfl rfl)
theorem dX9_table_35 : decode cX9_table 35 = .ok (.getfield 19, 3) := dk_180 0 19 (dk_at dksX9_table_1 12 rfl rfl)
theorem dX9_table_38 : decode cX9_table 38 = .ok (.arraylength, 1) := dk_190 (dk_at dksX9_table_1 15 rfl rfl)
theorem dX9_table_39 : decode cX9_table 39 = .ok (.invokespecial 61, 3) := dk_183 0 61 (dk_at dksX9_table_1 16 rfl rfl)
theorem dX9_table_42 : decode cX9_table 42 = .ok (.astore_n 2, 1) := dk_77 (dk_at dksX9_table_1 19 rfl rfl)
theorem dX9_table_43 : decode cX9_table 43 = .ok (.iconst 0, 1) := dk_3 (dk_at dksX9_table_1 20 rfl rfl)
theorem dX9_table_44 : decode cX9_table 44 = .ok (.istore_n 3, 1) := dk_62 (dk_at dksX9_table_1 21 rfl rfl)
theorem dX9_table_45 : decode cX9_table 45 = .ok (.iload_n 3, 1) := dk_29 (dk_at dksX9_table_1 22 rfl rfl)
theorem dX9_table_46 : decode cX9_table 46 = .ok (.aload_n 2, 1) := dk_44 (dk_at dksX9_table_1 23 rfl rfl)
theorem dX9_table_47 : decode cX9_table 47 = .ok (.getfield 64, 3) := dk_180 0 64 (dk_at dksX9_table_2 0 rfl rfl)
theorem dX9_table_50 : decode cX9_table 50 = .ok (.if_icmp .ge 98, 3) := dk_162 0 98 (dk_at dksX9_table_2 3 rfl rfl)
theorem dX9_table_53 : decode cX9_table 53 = .ok (.iload_n 1, 1) := dk_27 (dk_at dksX9_table_2 6 rfl rfl)
theorem dX9_table_54 : decode cX9_table 54 = .ok (.iconst 1, 1) := dk_4 (dk_at dksX9_table_2 7 rfl rfl)
theorem dX9_table_55 : decode cX9_table 55 = .ok (.if_icmp .ne 43, 3) := dk_160 0 43 (dk_at dksX9_table_2 8 rfl rfl)
theorem dX9_table_58 : decode cX9_table 58 = .ok (.aload_n 2, 1) := dk_44 (dk_at dksX9_table_2 11 rfl rfl)
theorem dX9_table_59 : decode cX9_table 59 = .ok (.getfield 67, 3) := dk_180 0 67 (dk_at dksX9_table_2 12 rfl rfl)
theorem dX9_table_62 : decode cX9_table 62 = .ok (.aload_n 0, 1) := dk_42 (dk_at dksX9_table_2 15 rfl rfl)
theorem dX9_table_63 : decode cX9_table 63 = .ok (.getfield 15, 3) := dk_180 0 15 (dk_at dksX9_table_2 16 rfl rfl)
theorem dX9_table_66 : decode cX9_table 66 = .ok (.iload_n 3, 1) := dk_29 (dk_at dksX9_table_2 19 rfl rfl)
theorem dX9_table_67 : decode cX9_table 67 = .ok (.aaload, 1) := dk_50 (dk_at dksX9_table_2 20 rfl rfl)
theorem dX9_table_68 : decode cX9_table 68 = .ok (.getfield 71, 3) := dk_180 0 71 (dk_at dksX9_table_2 21 rfl rfl)
theorem dX9_table_71 : decode cX9_table 71 = .ok (.aaload, 1) := dk_50 (dk_at dksX9_table_3 0 rfl rfl)
theorem dX9_table_72 : decode cX9_table 72 = .ok (.iload_n 3, 1) := dk_29 (dk_at dksX9_table_3 1 rfl rfl)
theorem dX9_table_73 : decode cX9_table 73 = .ok (.dup2, 1) := dk_92 (dk_at dksX9_table_3 2 rfl rfl)
theorem dX9_table_74 : decode cX9_table 74 = .ok (.laload, 1) := dk_47 (dk_at dksX9_table_3 3 rfl rfl)
theorem dX9_table_75 : decode cX9_table 75 = .ok (.lconst 1, 1) := dk_10 (dk_at dksX9_table_3 4 rfl rfl)
theorem dX9_table_76 : decode cX9_table 76 = .ok (.ladd, 1) := dk_97 (dk_at dksX9_table_3 5 rfl rfl)
theorem dX9_table_77 : decode cX9_table 77 = .ok (.lastore, 1) := dk_80 (dk_at dksX9_table_3 6 rfl rfl)
theorem dX9_table_78 : decode cX9_table 78 = .ok (.aload_n 2, 1) := dk_44 (dk_at dksX9_table_3 7 rfl rfl)
theorem dX9_table_79 : decode cX9_table 79 = .ok (.getfield 67, 3) := dk_180 0 67 (dk_at dksX9_table_3 8 rfl rfl)
theorem dX9_table_82 : decode cX9_table 82 = .ok (.aload_n 0, 1) := dk_42 (dk_at dksX9_table_3 11 rfl rfl)
theorem dX9_table_83 : decode cX9_table 83 = .ok (.getfield 15, 3) := dk_180 0 15 (dk_at dksX9_table_3 12 rfl rfl)
theorem dX9_table_86 : decode cX9_table 86 = .ok (.iload_n 3, 1) := dk_29 (dk_at dksX9_table_3 15 rfl rfl)
theorem dX9_table_87 : decode cX9_table 87 = .ok (.aaload, 1) := dk_50 (dk_at dksX9_table_3 16 rfl rfl)
theorem dX9_table_88 : decode cX9_table 88 = .ok (.getfield 74, 3) := dk_180 0 74 (dk_at dksX9_table_3 17 rfl rfl)
theorem dX9_table_91 : decode cX9_table 91 = .ok (.aaload, 1) := dk_50 (dk_at dksX9_table_3 20 rfl rfl)
theorem dX9_table_92 : decode cX9_table 92 = .ok (.iload_n 3, 1) := dk_29 (dk_at dksX9_table_3 21 rfl rfl)
theorem dX9_table_93 : decode cX9_table 93 = .ok (.dup2, 1) := dk_92 (dk_at dksX9_table_3 22 rfl rfl)
theorem dX9_table_94 : decode cX9_table 94 = .ok (.laload, 1) := dk_47 (dk_at dksX9_table_3 23 rfl rfl)
theorem dX9_table_95 : decode cX9_table 95 = .ok (.lconst 1, 1) := dk_10 (dk_at dksX9_table_4 0 rfl rfl)
theorem dX9_table_96 : decode cX9_table 96 = .ok (.lsub, 1) := dk_101 (dk_at dksX9_table_4 1 rfl rfl)
theorem dX9_table_97 : decode cX9_table 97 = .ok (.lastore, 1) := dk_80 (dk_at dksX9_table_4 2 rfl rfl)
theorem dX9_table_98 : decode cX9_table 98 = .ok (.iconst 0, 1) := dk_3 (dk_at dksX9_table_4 3 rfl rfl)
theorem dX9_table_99 : decode cX9_table 99 = .ok (.istore 4, 2) := dk_54 4 (dk_at dksX9_table_4 4 rfl rfl)
theorem dX9_table_101 : decode cX9_table 101 = .ok (.iload 4, 2) := dk_21 4 (dk_at dksX9_table_4 6 rfl rfl)
theorem dX9_table_103 : decode cX9_table 103 = .ok (.aload_n 2, 1) := dk_44 (dk_at dksX9_table_4 8 rfl rfl)
theorem dX9_table_104 : decode cX9_table 104 = .ok (.getfield 77, 3) := dk_180 0 77 (dk_at dksX9_table_4 9 rfl rfl)
theorem dX9_table_107 : decode cX9_table 107 = .ok (.if_icmp .ge 35, 3) := dk_162 0 35 (dk_at dksX9_table_4 12 rfl rfl)
theorem dX9_table_110 : decode cX9_table 110 = .ok (.iload_n 1, 1) := dk_27 (dk_at dksX9_table_4 15 rfl rfl)
theorem dX9_table_111 : decode cX9_table 111 = .ok (.iconst 2, 1) := dk_5 (dk_at dksX9_table_4 16 rfl rfl)
theorem dX9_table_112 : decode cX9_table 112 = .ok (.if_icmp .ne 30, 3) := dk_160 0 30 (dk_at dksX9_table_4 17 rfl rfl)
theorem dX9_table_115 : decode cX9_table 115 = .ok (.aload_n 2, 1) := dk_44 (dk_at dksX9_table_4 20 rfl rfl)
theorem dX9_table_116 : decode cX9_table 116 = .ok (.getfield 67, 3) := dk_180 0 67 (dk_at dksX9_table_4 21 rfl rfl)
theorem dX9_table_119 : decode cX9_table 119 = .ok (.iload 4, 2) := dk_21 4 (dk_at dksX9_table_5 0 rfl rfl)
theorem dX9_table_121 : decode cX9_table 121 = .ok (.aaload, 1) := dk_50 (dk_at dksX9_table_5 2 rfl rfl)
theorem dX9_table_122 : decode cX9_table 122 = .ok (.iload_n 3, 1) := dk_29 (dk_at dksX9_table_5 3 rfl rfl)
theorem dX9_table_123 : decode cX9_table 123 = .ok (.aload_n 0, 1) := dk_42 (dk_at dksX9_table_5 4 rfl rfl)
theorem dX9_table_124 : decode cX9_table 124 = .ok (.getfield 19, 3) := dk_180 0 19 (dk_at dksX9_table_5 5 rfl rfl)
theorem dX9_table_127 : decode cX9_table 127 = .ok (.iload_n 3, 1) := dk_29 (dk_at dksX9_table_5 8 rfl rfl)
theorem dX9_table_128 : decode cX9_table 128 = .ok (.aaload, 1) := dk_50 (dk_at dksX9_table_5 9 rfl rfl)
theorem dX9_table_129 : decode cX9_table 129 = .ok (.iload 4, 2) := dk_21 4 (dk_at dksX9_table_5 10 rfl rfl)
theorem dX9_table_131 : decode cX9_table 131 = .ok (.invokevirtual 80, 3) := dk_182 0 80 (dk_at dksX9_table_5 12 rfl rfl)
theorem dX9_table_134 : decode cX9_table 134 = .ok (.i2l, 1) := dk_133 (dk_at dksX9_table_5 15 rfl rfl)
theorem dX9_table_135 : decode cX9_table 135 = .ok (.lastore, 1) := dk_80 (dk_at dksX9_table_5 16 rfl rfl)
theorem dX9_table_136 : decode cX9_table 136 = .ok (.iinc 4 1, 3) := dk_132 4 1 (dk_at dksX9_table_5 17 rfl rfl)
theorem dX9_table_139 : decode cX9_table 139 = .ok (.goto (-38), 3) := dk_167 255 218 (dk_at dksX9_table_5 20 rfl rfl)
theorem dX9_table_142 : decode cX9_table 142 = .ok (.iinc 3 1, 3) := dk_132 3 1 (dk_at dksX9_table_6 0 rfl rfl)
theorem dX9_table_145 : decode cX9_table 145 = .ok (.goto (-100), 3) := dk_167 255 156 (dk_at dksX9_table_6 3 rfl rfl)
theorem dX9_table_148 : decode cX9_table 148 = .ok (.aload_n 2, 1) := dk_44 (dk_at dksX9_table_6 6 rfl rfl)
theorem dX9_table_149 : decode cX9_table 149 = .ok (.areturn, 1) := dk_176 (dk_at dksX9_table_6 7 rfl rfl)
abbrev cX9_near : ByteArray := prog_3_method_10_code
def yX9_near : MethodName := ⟨RX9, "near", "(I)LChainParts$Table;"⟩
def dkwX9_near_2 : List UInt8 := [182, 0, 88, 182, 0, 92, 182, 0, 96, 176]
abbrev dktX9_near_2 : List UInt8 := dkwX9_near_2 ++ []
def dkwX9_near_1 : List UInt8 := [154, 0, 7, 4, 167, 0, 4, 5, 61, 42, 28, 182, 0, 88, 42, 28, 182, 0, 100, 182, 0, 104, 42, 28]
abbrev dktX9_near_1 : List UInt8 := dkwX9_near_1 ++ dktX9_near_2
def dkwX9_near_0 : List UInt8 := [27, 4, 160, 0, 20, 42, 4, 182, 0, 88, 182, 0, 92, 42, 4, 182, 0, 88, 182, 0, 96, 176, 27]
abbrev dktX9_near_0 : List UInt8 := dkwX9_near_0 ++ dktX9_near_1
theorem dksX9_near_0 : cX9_near.data.toList.drop 0 = dktX9_near_0 := by decide +kernel
theorem dksX9_near_1 : cX9_near.data.toList.drop 23 = dktX9_near_1 := dk_seg dksX9_near_0 23 rfl rfl
theorem dksX9_near_2 : cX9_near.data.toList.drop 47 = dktX9_near_2 := dk_seg dksX9_near_1 24 rfl rfl
theorem dX9_near_0 : decode cX9_near 0 = .ok (.iload_n 1, 1) := dk_27 (dk_at dksX9_near_0 0 rfl rfl)
theorem dX9_near_1 : decode cX9_near 1 = .ok (.iconst 1, 1) := dk_4 (dk_at dksX9_near_0 1 rfl rfl)
theorem dX9_near_2 : decode cX9_near 2 = .ok (.if_icmp .ne 20, 3) := dk_160 0 20 (dk_at dksX9_near_0 2 rfl rfl)
theorem dX9_near_5 : decode cX9_near 5 = .ok (.aload_n 0, 1) := dk_42 (dk_at dksX9_near_0 5 rfl rfl)
theorem dX9_near_6 : decode cX9_near 6 = .ok (.iconst 1, 1) := dk_4 (dk_at dksX9_near_0 6 rfl rfl)
theorem dX9_near_7 : decode cX9_near 7 = .ok (.invokevirtual 88, 3) := dk_182 0 88 (dk_at dksX9_near_0 7 rfl rfl)
theorem dX9_near_10 : decode cX9_near 10 = .ok (.invokevirtual 92, 3) := dk_182 0 92 (dk_at dksX9_near_0 10 rfl rfl)
theorem dX9_near_13 : decode cX9_near 13 = .ok (.aload_n 0, 1) := dk_42 (dk_at dksX9_near_0 13 rfl rfl)
theorem dX9_near_14 : decode cX9_near 14 = .ok (.iconst 1, 1) := dk_4 (dk_at dksX9_near_0 14 rfl rfl)
theorem dX9_near_15 : decode cX9_near 15 = .ok (.invokevirtual 88, 3) := dk_182 0 88 (dk_at dksX9_near_0 15 rfl rfl)
theorem dX9_near_18 : decode cX9_near 18 = .ok (.invokevirtual 96, 3) := dk_182 0 96 (dk_at dksX9_near_0 18 rfl rfl)
theorem dX9_near_21 : decode cX9_near 21 = .ok (.areturn, 1) := dk_176 (dk_at dksX9_near_0 21 rfl rfl)
theorem dX9_near_22 : decode cX9_near 22 = .ok (.iload_n 1, 1) := dk_27 (dk_at dksX9_near_0 22 rfl rfl)
theorem dX9_near_23 : decode cX9_near 23 = .ok (.ifCond .ne 7, 3) := dk_154 0 7 (dk_at dksX9_near_1 0 rfl rfl)
theorem dX9_near_26 : decode cX9_near 26 = .ok (.iconst 1, 1) := dk_4 (dk_at dksX9_near_1 3 rfl rfl)
theorem dX9_near_27 : decode cX9_near 27 = .ok (.goto 4, 3) := dk_167 0 4 (dk_at dksX9_near_1 4 rfl rfl)
theorem dX9_near_30 : decode cX9_near 30 = .ok (.iconst 2, 1) := dk_5 (dk_at dksX9_near_1 7 rfl rfl)
theorem dX9_near_31 : decode cX9_near 31 = .ok (.istore_n 2, 1) := dk_61 (dk_at dksX9_near_1 8 rfl rfl)
theorem dX9_near_32 : decode cX9_near 32 = .ok (.aload_n 0, 1) := dk_42 (dk_at dksX9_near_1 9 rfl rfl)
theorem dX9_near_33 : decode cX9_near 33 = .ok (.iload_n 2, 1) := dk_28 (dk_at dksX9_near_1 10 rfl rfl)
theorem dX9_near_34 : decode cX9_near 34 = .ok (.invokevirtual 88, 3) := dk_182 0 88 (dk_at dksX9_near_1 11 rfl rfl)
theorem dX9_near_37 : decode cX9_near 37 = .ok (.aload_n 0, 1) := dk_42 (dk_at dksX9_near_1 14 rfl rfl)
theorem dX9_near_38 : decode cX9_near 38 = .ok (.iload_n 2, 1) := dk_28 (dk_at dksX9_near_1 15 rfl rfl)
theorem dX9_near_39 : decode cX9_near 39 = .ok (.invokevirtual 100, 3) := dk_182 0 100 (dk_at dksX9_near_1 16 rfl rfl)
theorem dX9_near_42 : decode cX9_near 42 = .ok (.invokevirtual 104, 3) := dk_182 0 104 (dk_at dksX9_near_1 19 rfl rfl)
theorem dX9_near_45 : decode cX9_near 45 = .ok (.aload_n 0, 1) := dk_42 (dk_at dksX9_near_1 22 rfl rfl)
theorem dX9_near_46 : decode cX9_near 46 = .ok (.iload_n 2, 1) := dk_28 (dk_at dksX9_near_1 23 rfl rfl)
theorem dX9_near_47 : decode cX9_near 47 = .ok (.invokevirtual 88, 3) := dk_182 0 88 (dk_at dksX9_near_2 0 rfl rfl)
theorem dX9_near_50 : decode cX9_near 50 = .ok (.invokevirtual 92, 3) := dk_182 0 92 (dk_at dksX9_near_2 3 rfl rfl)
theorem dX9_near_53 : decode cX9_near 53 = .ok (.invokevirtual 96, 3) := dk_182 0 96 (dk_at dksX9_near_2 6 rfl rfl)
theorem dX9_near_56 : decode cX9_near 56 = .ok (.areturn, 1) := dk_176 (dk_at dksX9_near_2 9 rfl rfl)
abbrev cX9_weights : ByteArray := prog_3_method_9_code
def yX9_weights : MethodName := ⟨RX9, "weights", "(I)[I"⟩
def dkwX9_weights_2 : List UInt8 := [42, 180, 0, 19, 29, 50, 180, 0, 87, 79, 132, 3, 1, 167, 255, 218, 44, 176]
abbrev dktX9_weights_2 : List UInt8 := dkwX9_weights_2 ++ []
def dkwX9_weights_1 : List UInt8 := [44, 190, 162, 0, 38, 44, 29, 27, 4, 160, 0, 15, 42, 180, 0, 15, 29, 50, 180, 0, 84, 167, 0, 12]
abbrev dktX9_weights_1 : List UInt8 := dkwX9_weights_1 ++ dktX9_weights_2
def dkwX9_weights_0 : List UInt8 := [27, 4, 160, 0, 11, 42, 180, 0, 15, 190, 167, 0, 8, 42, 180, 0, 19, 190, 188, 10, 77, 3, 62, 29]
abbrev dktX9_weights_0 : List UInt8 := dkwX9_weights_0 ++ dktX9_weights_1
theorem dksX9_weights_0 : cX9_weights.data.toList.drop 0 = dktX9_weights_0 := by decide +kernel
theorem dksX9_weights_1 : cX9_weights.data.toList.drop 24 = dktX9_weights_1 := dk_seg dksX9_weights_0 24 rfl rfl
theorem dksX9_weights_2 : cX9_weights.data.toList.drop 48 = dktX9_weights_2 := dk_seg dksX9_weights_1 24 rfl rfl
theorem dX9_weights_0 : decode cX9_weights 0 = .ok (.iload_n 1, 1) := dk_27 (dk_at dksX9_weights_0 0 rfl rfl)
theorem dX9_weights_1 : decode cX9_weights 1 = .ok (.iconst 1, 1) := dk_4 (dk_at dksX9_weights_0 1 rfl rfl)
theorem dX9_weights_2 : decode cX9_weights 2 = .ok (.if_icmp .ne 11, 3) := dk_160 0 11 (dk_at dksX9_weights_0 2 rfl rfl)
theorem dX9_weights_5 : decode cX9_weights 5 = .ok (.aload_n 0, 1) := dk_42 (dk_at dksX9_weights_0 5 rfl rfl)
theorem dX9_weights_6 : decode cX9_weights 6 = .ok (.getfield 15, 3) := dk_180 0 15 (dk_at dksX9_weights_0 6 rfl rfl)
theorem dX9_weights_9 : decode cX9_weights 9 = .ok (.arraylength, 1) := dk_190 (dk_at dksX9_weights_0 9 rfl rfl)
theorem dX9_weights_10 : decode cX9_weights 10 = .ok (.goto 8, 3) := dk_167 0 8 (dk_at dksX9_weights_0 10 rfl rfl)
theorem dX9_weights_13 : decode cX9_weights 13 = .ok (.aload_n 0, 1) := dk_42 (dk_at dksX9_weights_0 13 rfl rfl)
theorem dX9_weights_14 : decode cX9_weights 14 = .ok (.getfield 19, 3) := dk_180 0 19 (dk_at dksX9_weights_0 14 rfl rfl)
theorem dX9_weights_17 : decode cX9_weights 17 = .ok (.arraylength, 1) := dk_190 (dk_at dksX9_weights_0 17 rfl rfl)
theorem dX9_weights_18 : decode cX9_weights 18 = .ok (.newarray .int, 2) := dk_188_10 (dk_at dksX9_weights_0 18 rfl rfl)
theorem dX9_weights_20 : decode cX9_weights 20 = .ok (.astore_n 2, 1) := dk_77 (dk_at dksX9_weights_0 20 rfl rfl)
theorem dX9_weights_21 : decode cX9_weights 21 = .ok (.iconst 0, 1) := dk_3 (dk_at dksX9_weights_0 21 rfl rfl)
theorem dX9_weights_22 : decode cX9_weights 22 = .ok (.istore_n 3, 1) := dk_62 (dk_at dksX9_weights_0 22 rfl rfl)
theorem dX9_weights_23 : decode cX9_weights 23 = .ok (.iload_n 3, 1) := dk_29 (dk_at dksX9_weights_0 23 rfl rfl)
theorem dX9_weights_24 : decode cX9_weights 24 = .ok (.aload_n 2, 1) := dk_44 (dk_at dksX9_weights_1 0 rfl rfl)
theorem dX9_weights_25 : decode cX9_weights 25 = .ok (.arraylength, 1) := dk_190 (dk_at dksX9_weights_1 1 rfl rfl)
theorem dX9_weights_26 : decode cX9_weights 26 = .ok (.if_icmp .ge 38, 3) := dk_162 0 38 (dk_at dksX9_weights_1 2 rfl rfl)
theorem dX9_weights_29 : decode cX9_weights 29 = .ok (.aload_n 2, 1) := dk_44 (dk_at dksX9_weights_1 5 rfl rfl)
theorem dX9_weights_30 : decode cX9_weights 30 = .ok (.iload_n 3, 1) := dk_29 (dk_at dksX9_weights_1 6 rfl rfl)
theorem dX9_weights_31 : decode cX9_weights 31 = .ok (.iload_n 1, 1) := dk_27 (dk_at dksX9_weights_1 7 rfl rfl)
theorem dX9_weights_32 : decode cX9_weights 32 = .ok (.iconst 1, 1) := dk_4 (dk_at dksX9_weights_1 8 rfl rfl)
theorem dX9_weights_33 : decode cX9_weights 33 = .ok (.if_icmp .ne 15, 3) := dk_160 0 15 (dk_at dksX9_weights_1 9 rfl rfl)
theorem dX9_weights_36 : decode cX9_weights 36 = .ok (.aload_n 0, 1) := dk_42 (dk_at dksX9_weights_1 12 rfl rfl)
theorem dX9_weights_37 : decode cX9_weights 37 = .ok (.getfield 15, 3) := dk_180 0 15 (dk_at dksX9_weights_1 13 rfl rfl)
theorem dX9_weights_40 : decode cX9_weights 40 = .ok (.iload_n 3, 1) := dk_29 (dk_at dksX9_weights_1 16 rfl rfl)
theorem dX9_weights_41 : decode cX9_weights 41 = .ok (.aaload, 1) := dk_50 (dk_at dksX9_weights_1 17 rfl rfl)
theorem dX9_weights_42 : decode cX9_weights 42 = .ok (.getfield 84, 3) := dk_180 0 84 (dk_at dksX9_weights_1 18 rfl rfl)
theorem dX9_weights_45 : decode cX9_weights 45 = .ok (.goto 12, 3) := dk_167 0 12 (dk_at dksX9_weights_1 21 rfl rfl)
theorem dX9_weights_48 : decode cX9_weights 48 = .ok (.aload_n 0, 1) := dk_42 (dk_at dksX9_weights_2 0 rfl rfl)
theorem dX9_weights_49 : decode cX9_weights 49 = .ok (.getfield 19, 3) := dk_180 0 19 (dk_at dksX9_weights_2 1 rfl rfl)
theorem dX9_weights_52 : decode cX9_weights 52 = .ok (.iload_n 3, 1) := dk_29 (dk_at dksX9_weights_2 4 rfl rfl)
theorem dX9_weights_53 : decode cX9_weights 53 = .ok (.aaload, 1) := dk_50 (dk_at dksX9_weights_2 5 rfl rfl)
theorem dX9_weights_54 : decode cX9_weights 54 = .ok (.getfield 87, 3) := dk_180 0 87 (dk_at dksX9_weights_2 6 rfl rfl)
theorem dX9_weights_57 : decode cX9_weights 57 = .ok (.iastore, 1) := dk_79 (dk_at dksX9_weights_2 9 rfl rfl)
theorem dX9_weights_58 : decode cX9_weights 58 = .ok (.iinc 3 1, 3) := dk_132 3 1 (dk_at dksX9_weights_2 10 rfl rfl)
theorem dX9_weights_61 : decode cX9_weights 61 = .ok (.goto (-38), 3) := dk_167 255 218 (dk_at dksX9_weights_2 13 rfl rfl)
theorem dX9_weights_64 : decode cX9_weights 64 = .ok (.aload_n 2, 1) := dk_44 (dk_at dksX9_weights_2 16 rfl rfl)
theorem dX9_weights_65 : decode cX9_weights 65 = .ok (.areturn, 1) := dk_176 (dk_at dksX9_weights_2 17 rfl rfl)
abbrev cX9_rank : ByteArray := prog_3_method_23_code
def yX9_rank : MethodName := ⟨RX9, "rank", "(II)I"⟩
def dkwX9_rank_1 : List UInt8 := [172]
abbrev dktX9_rank_1 : List UInt8 := dkwX9_rank_1 ++ []
def dkwX9_rank_0 : List UInt8 := [28, 154, 0, 14, 42, 27, 182, 0, 88, 182, 0, 111, 167, 0, 12, 42, 27, 182, 0, 88, 28, 182, 0, 201]
abbrev dktX9_rank_0 : List UInt8 := dkwX9_rank_0 ++ dktX9_rank_1
theorem dksX9_rank_0 : cX9_rank.data.toList.drop 0 = dktX9_rank_0 := by decide +kernel
theorem dksX9_rank_1 : cX9_rank.data.toList.drop 24 = dktX9_rank_1 := dk_seg dksX9_rank_0 24 rfl rfl
theorem dX9_rank_0 : decode cX9_rank 0 = .ok (.iload_n 2, 1) := dk_28 (dk_at dksX9_rank_0 0 rfl rfl)
theorem dX9_rank_1 : decode cX9_rank 1 = .ok (.ifCond .ne 14, 3) := dk_154 0 14 (dk_at dksX9_rank_0 1 rfl rfl)
theorem dX9_rank_4 : decode cX9_rank 4 = .ok (.aload_n 0, 1) := dk_42 (dk_at dksX9_rank_0 4 rfl rfl)
theorem dX9_rank_5 : decode cX9_rank 5 = .ok (.iload_n 1, 1) := dk_27 (dk_at dksX9_rank_0 5 rfl rfl)
theorem dX9_rank_6 : decode cX9_rank 6 = .ok (.invokevirtual 88, 3) := dk_182 0 88 (dk_at dksX9_rank_0 6 rfl rfl)
theorem dX9_rank_9 : decode cX9_rank 9 = .ok (.invokevirtual 111, 3) := dk_182 0 111 (dk_at dksX9_rank_0 9 rfl rfl)
theorem dX9_rank_12 : decode cX9_rank 12 = .ok (.goto 12, 3) := dk_167 0 12 (dk_at dksX9_rank_0 12 rfl rfl)
theorem dX9_rank_15 : decode cX9_rank 15 = .ok (.aload_n 0, 1) := dk_42 (dk_at dksX9_rank_0 15 rfl rfl)
theorem dX9_rank_16 : decode cX9_rank 16 = .ok (.iload_n 1, 1) := dk_27 (dk_at dksX9_rank_0 16 rfl rfl)
theorem dX9_rank_17 : decode cX9_rank 17 = .ok (.invokevirtual 88, 3) := dk_182 0 88 (dk_at dksX9_rank_0 17 rfl rfl)
theorem dX9_rank_20 : decode cX9_rank 20 = .ok (.iload_n 2, 1) := dk_28 (dk_at dksX9_rank_0 20 rfl rfl)
theorem dX9_rank_21 : decode cX9_rank 21 = .ok (.invokevirtual 201, 3) := dk_182 0 201 (dk_at dksX9_rank_0 21 rfl rfl)
theorem dX9_rank_24 : decode cX9_rank 24 = .ok (.ireturn, 1) := dk_172 (dk_at dksX9_rank_1 0 rfl rfl)
abbrev cX9_holes : ByteArray := prog_3_method_25_code
def yX9_holes : MethodName := ⟨RX9, "holes", "(II)I"⟩
def dkwX9_holes_1 : List UInt8 := [162, 0, 14, 42, 27, 4, 96, 28, 182, 0, 207, 167, 0, 4, 3, 100, 172]
abbrev dktX9_holes_1 : List UInt8 := dkwX9_holes_1 ++ []
def dkwX9_holes_0 : List UInt8 := [42, 27, 182, 0, 204, 27, 158, 0, 12, 42, 27, 28, 182, 0, 207, 167, 0, 4, 3, 100, 27, 5]
abbrev dktX9_holes_0 : List UInt8 := dkwX9_holes_0 ++ dktX9_holes_1
theorem dksX9_holes_0 : cX9_holes.data.toList.drop 0 = dktX9_holes_0 := by decide +kernel
theorem dksX9_holes_1 : cX9_holes.data.toList.drop 22 = dktX9_holes_1 := dk_seg dksX9_holes_0 22 rfl rfl
theorem dX9_holes_0 : decode cX9_holes 0 = .ok (.aload_n 0, 1) := dk_42 (dk_at dksX9_holes_0 0 rfl rfl)
theorem dX9_holes_1 : decode cX9_holes 1 = .ok (.iload_n 1, 1) := dk_27 (dk_at dksX9_holes_0 1 rfl rfl)
theorem dX9_holes_2 : decode cX9_holes 2 = .ok (.invokevirtual 204, 3) := dk_182 0 204 (dk_at dksX9_holes_0 2 rfl rfl)
theorem dX9_holes_5 : decode cX9_holes 5 = .ok (.iload_n 1, 1) := dk_27 (dk_at dksX9_holes_0 5 rfl rfl)
theorem dX9_holes_6 : decode cX9_holes 6 = .ok (.ifCond .le 12, 3) := dk_158 0 12 (dk_at dksX9_holes_0 6 rfl rfl)
theorem dX9_holes_9 : decode cX9_holes 9 = .ok (.aload_n 0, 1) := dk_42 (dk_at dksX9_holes_0 9 rfl rfl)
theorem dX9_holes_10 : decode cX9_holes 10 = .ok (.iload_n 1, 1) := dk_27 (dk_at dksX9_holes_0 10 rfl rfl)
theorem dX9_holes_11 : decode cX9_holes 11 = .ok (.iload_n 2, 1) := dk_28 (dk_at dksX9_holes_0 11 rfl rfl)
theorem dX9_holes_12 : decode cX9_holes 12 = .ok (.invokevirtual 207, 3) := dk_182 0 207 (dk_at dksX9_holes_0 12 rfl rfl)
theorem dX9_holes_15 : decode cX9_holes 15 = .ok (.goto 4, 3) := dk_167 0 4 (dk_at dksX9_holes_0 15 rfl rfl)
theorem dX9_holes_18 : decode cX9_holes 18 = .ok (.iconst 0, 1) := dk_3 (dk_at dksX9_holes_0 18 rfl rfl)
theorem dX9_holes_19 : decode cX9_holes 19 = .ok (.isub, 1) := dk_100 (dk_at dksX9_holes_0 19 rfl rfl)
theorem dX9_holes_20 : decode cX9_holes 20 = .ok (.iload_n 1, 1) := dk_27 (dk_at dksX9_holes_0 20 rfl rfl)
theorem dX9_holes_21 : decode cX9_holes 21 = .ok (.iconst 2, 1) := dk_5 (dk_at dksX9_holes_0 21 rfl rfl)
theorem dX9_holes_22 : decode cX9_holes 22 = .ok (.if_icmp .ge 14, 3) := dk_162 0 14 (dk_at dksX9_holes_1 0 rfl rfl)
theorem dX9_holes_25 : decode cX9_holes 25 = .ok (.aload_n 0, 1) := dk_42 (dk_at dksX9_holes_1 3 rfl rfl)
theorem dX9_holes_26 : decode cX9_holes 26 = .ok (.iload_n 1, 1) := dk_27 (dk_at dksX9_holes_1 4 rfl rfl)
theorem dX9_holes_27 : decode cX9_holes 27 = .ok (.iconst 1, 1) := dk_4 (dk_at dksX9_holes_1 5 rfl rfl)
theorem dX9_holes_28 : decode cX9_holes 28 = .ok (.iadd, 1) := dk_96 (dk_at dksX9_holes_1 6 rfl rfl)
theorem dX9_holes_29 : decode cX9_holes 29 = .ok (.iload_n 2, 1) := dk_28 (dk_at dksX9_holes_1 7 rfl rfl)
theorem dX9_holes_30 : decode cX9_holes 30 = .ok (.invokevirtual 207, 3) := dk_182 0 207 (dk_at dksX9_holes_1 8 rfl rfl)
theorem dX9_holes_33 : decode cX9_holes 33 = .ok (.goto 4, 3) := dk_167 0 4 (dk_at dksX9_holes_1 11 rfl rfl)
theorem dX9_holes_36 : decode cX9_holes 36 = .ok (.iconst 0, 1) := dk_3 (dk_at dksX9_holes_1 14 rfl rfl)
theorem dX9_holes_37 : decode cX9_holes 37 = .ok (.isub, 1) := dk_100 (dk_at dksX9_holes_1 15 rfl rfl)
theorem dX9_holes_38 : decode cX9_holes 38 = .ok (.ireturn, 1) := dk_172 (dk_at dksX9_holes_1 16 rfl rfl)
abbrev cX9_twisted : ByteArray := prog_3_method_20_code
def yX9_twisted : MethodName := ⟨RX9, "twisted", "(I)J"⟩
def dkwX9_twisted_2 : List UInt8 := [167, 255, 234, 32, 173]
abbrev dktX9_twisted_2 : List UInt8 := dkwX9_twisted_2 ++ []
def dkwX9_twisted_1 : List UInt8 := [21, 6, 21, 5, 162, 0, 21, 25, 4, 21, 6, 47, 55, 7, 32, 22, 7, 105, 65, 132, 6, 1]
abbrev dktX9_twisted_1 : List UInt8 := dkwX9_twisted_1 ++ dktX9_twisted_2
def dkwX9_twisted_0 : List UInt8 := [10, 65, 42, 5, 182, 0, 88, 27, 182, 0, 108, 182, 0, 184, 58, 4, 25, 4, 190, 54, 5, 3, 54, 6]
abbrev dktX9_twisted_0 : List UInt8 := dkwX9_twisted_0 ++ dktX9_twisted_1
theorem dksX9_twisted_0 : cX9_twisted.data.toList.drop 0 = dktX9_twisted_0 := by decide +kernel
theorem dksX9_twisted_1 : cX9_twisted.data.toList.drop 24 = dktX9_twisted_1 := dk_seg dksX9_twisted_0 24 rfl rfl
theorem dksX9_twisted_2 : cX9_twisted.data.toList.drop 46 = dktX9_twisted_2 := dk_seg dksX9_twisted_1 22 rfl rfl
theorem dX9_twisted_0 : decode cX9_twisted 0 = .ok (.lconst 1, 1) := dk_10 (dk_at dksX9_twisted_0 0 rfl rfl)
theorem dX9_twisted_1 : decode cX9_twisted 1 = .ok (.lstore_n 2, 1) := dk_65 (dk_at dksX9_twisted_0 1 rfl rfl)
theorem dX9_twisted_2 : decode cX9_twisted 2 = .ok (.aload_n 0, 1) := dk_42 (dk_at dksX9_twisted_0 2 rfl rfl)
theorem dX9_twisted_3 : decode cX9_twisted 3 = .ok (.iconst 2, 1) := dk_5 (dk_at dksX9_twisted_0 3 rfl rfl)
theorem dX9_twisted_4 : decode cX9_twisted 4 = .ok (.invokevirtual 88, 3) := dk_182 0 88 (dk_at dksX9_twisted_0 4 rfl rfl)
theorem dX9_twisted_7 : decode cX9_twisted 7 = .ok (.iload_n 1, 1) := dk_27 (dk_at dksX9_twisted_0 7 rfl rfl)
theorem dX9_twisted_8 : decode cX9_twisted 8 = .ok (.invokevirtual 108, 3) := dk_182 0 108 (dk_at dksX9_twisted_0 8 rfl rfl)
theorem dX9_twisted_11 : decode cX9_twisted 11 = .ok (.invokevirtual 184, 3) := dk_182 0 184 (dk_at dksX9_twisted_0 11 rfl rfl)
theorem dX9_twisted_14 : decode cX9_twisted 14 = .ok (.astore 4, 2) := dk_58 4 (dk_at dksX9_twisted_0 14 rfl rfl)
theorem dX9_twisted_16 : decode cX9_twisted 16 = .ok (.aload 4, 2) := dk_25 4 (dk_at dksX9_twisted_0 16 rfl rfl)
theorem dX9_twisted_18 : decode cX9_twisted 18 = .ok (.arraylength, 1) := dk_190 (dk_at dksX9_twisted_0 18 rfl rfl)
theorem dX9_twisted_19 : decode cX9_twisted 19 = .ok (.istore 5, 2) := dk_54 5 (dk_at dksX9_twisted_0 19 rfl rfl)
theorem dX9_twisted_21 : decode cX9_twisted 21 = .ok (.iconst 0, 1) := dk_3 (dk_at dksX9_twisted_0 21 rfl rfl)
theorem dX9_twisted_22 : decode cX9_twisted 22 = .ok (.istore 6, 2) := dk_54 6 (dk_at dksX9_twisted_0 22 rfl rfl)
theorem dX9_twisted_24 : decode cX9_twisted 24 = .ok (.iload 6, 2) := dk_21 6 (dk_at dksX9_twisted_1 0 rfl rfl)
theorem dX9_twisted_26 : decode cX9_twisted 26 = .ok (.iload 5, 2) := dk_21 5 (dk_at dksX9_twisted_1 2 rfl rfl)
theorem dX9_twisted_28 : decode cX9_twisted 28 = .ok (.if_icmp .ge 21, 3) := dk_162 0 21 (dk_at dksX9_twisted_1 4 rfl rfl)
theorem dX9_twisted_31 : decode cX9_twisted 31 = .ok (.aload 4, 2) := dk_25 4 (dk_at dksX9_twisted_1 7 rfl rfl)
theorem dX9_twisted_33 : decode cX9_twisted 33 = .ok (.iload 6, 2) := dk_21 6 (dk_at dksX9_twisted_1 9 rfl rfl)
theorem dX9_twisted_35 : decode cX9_twisted 35 = .ok (.laload, 1) := dk_47 (dk_at dksX9_twisted_1 11 rfl rfl)
theorem dX9_twisted_36 : decode cX9_twisted 36 = .ok (.lstore 7, 2) := dk_55 7 (dk_at dksX9_twisted_1 12 rfl rfl)
theorem dX9_twisted_38 : decode cX9_twisted 38 = .ok (.lload_n 2, 1) := dk_32 (dk_at dksX9_twisted_1 14 rfl rfl)
theorem dX9_twisted_39 : decode cX9_twisted 39 = .ok (.lload 7, 2) := dk_22 7 (dk_at dksX9_twisted_1 15 rfl rfl)
theorem dX9_twisted_41 : decode cX9_twisted 41 = .ok (.lmul, 1) := dk_105 (dk_at dksX9_twisted_1 17 rfl rfl)
theorem dX9_twisted_42 : decode cX9_twisted 42 = .ok (.lstore_n 2, 1) := dk_65 (dk_at dksX9_twisted_1 18 rfl rfl)
theorem dX9_twisted_43 : decode cX9_twisted 43 = .ok (.iinc 6 1, 3) := dk_132 6 1 (dk_at dksX9_twisted_1 19 rfl rfl)
theorem dX9_twisted_46 : decode cX9_twisted 46 = .ok (.goto (-22), 3) := dk_167 255 234 (dk_at dksX9_twisted_2 0 rfl rfl)
theorem dX9_twisted_49 : decode cX9_twisted 49 = .ok (.lload_n 2, 1) := dk_32 (dk_at dksX9_twisted_2 3 rfl rfl)
theorem dX9_twisted_50 : decode cX9_twisted 50 = .ok (.lreturn, 1) := dk_173 (dk_at dksX9_twisted_2 4 rfl rfl)
abbrev cX9_end : ByteArray := prog_3_method_17_code
def yX9_end : MethodName := ⟨RX9, "end", "(II)I"⟩
def dkwX9_end_3 : List UInt8 := [167, 255, 191, 29, 172]
abbrev dktX9_end_3 : List UInt8 := dkwX9_end_3 ++ []
def dkwX9_end_2 : List UInt8 := [21, 4, 50, 180, 0, 74, 28, 160, 0, 7, 4, 167, 0, 4, 3, 100, 104, 96, 62, 132, 4, 1]
abbrev dktX9_end_2 : List UInt8 := dkwX9_end_2 ++ dktX9_end_3
def dkwX9_end_1 : List UInt8 := [46, 42, 180, 0, 15, 21, 4, 50, 180, 0, 71, 28, 160, 0, 7, 4, 167, 0, 4, 3, 42, 180, 0, 15]
abbrev dktX9_end_1 : List UInt8 := dkwX9_end_1 ++ dktX9_end_2
def dkwX9_end_0 : List UInt8 := [3, 62, 3, 54, 4, 21, 4, 42, 180, 0, 15, 190, 162, 0, 61, 29, 42, 180, 0, 23, 27, 50, 21, 4]
abbrev dktX9_end_0 : List UInt8 := dkwX9_end_0 ++ dktX9_end_1
theorem dksX9_end_0 : cX9_end.data.toList.drop 0 = dktX9_end_0 := by decide +kernel
theorem dksX9_end_1 : cX9_end.data.toList.drop 24 = dktX9_end_1 := dk_seg dksX9_end_0 24 rfl rfl
theorem dksX9_end_2 : cX9_end.data.toList.drop 48 = dktX9_end_2 := dk_seg dksX9_end_1 24 rfl rfl
theorem dksX9_end_3 : cX9_end.data.toList.drop 70 = dktX9_end_3 := dk_seg dksX9_end_2 22 rfl rfl
theorem dX9_end_0 : decode cX9_end 0 = .ok (.iconst 0, 1) := dk_3 (dk_at dksX9_end_0 0 rfl rfl)
theorem dX9_end_1 : decode cX9_end 1 = .ok (.istore_n 3, 1) := dk_62 (dk_at dksX9_end_0 1 rfl rfl)
theorem dX9_end_2 : decode cX9_end 2 = .ok (.iconst 0, 1) := dk_3 (dk_at dksX9_end_0 2 rfl rfl)
theorem dX9_end_3 : decode cX9_end 3 = .ok (.istore 4, 2) := dk_54 4 (dk_at dksX9_end_0 3 rfl rfl)
theorem dX9_end_5 : decode cX9_end 5 = .ok (.iload 4, 2) := dk_21 4 (dk_at dksX9_end_0 5 rfl rfl)
theorem dX9_end_7 : decode cX9_end 7 = .ok (.aload_n 0, 1) := dk_42 (dk_at dksX9_end_0 7 rfl rfl)
theorem dX9_end_8 : decode cX9_end 8 = .ok (.getfield 15, 3) := dk_180 0 15 (dk_at dksX9_end_0 8 rfl rfl)
theorem dX9_end_11 : decode cX9_end 11 = .ok (.arraylength, 1) := dk_190 (dk_at dksX9_end_0 11 rfl rfl)
theorem dX9_end_12 : decode cX9_end 12 = .ok (.if_icmp .ge 61, 3) := dk_162 0 61 (dk_at dksX9_end_0 12 rfl rfl)
theorem dX9_end_15 : decode cX9_end 15 = .ok (.iload_n 3, 1) := dk_29 (dk_at dksX9_end_0 15 rfl rfl)
theorem dX9_end_16 : decode cX9_end 16 = .ok (.aload_n 0, 1) := dk_42 (dk_at dksX9_end_0 16 rfl rfl)
theorem dX9_end_17 : decode cX9_end 17 = .ok (.getfield 23, 3) := dk_180 0 23 (dk_at dksX9_end_0 17 rfl rfl)
theorem dX9_end_20 : decode cX9_end 20 = .ok (.iload_n 1, 1) := dk_27 (dk_at dksX9_end_0 20 rfl rfl)
theorem dX9_end_21 : decode cX9_end 21 = .ok (.aaload, 1) := dk_50 (dk_at dksX9_end_0 21 rfl rfl)
theorem dX9_end_22 : decode cX9_end 22 = .ok (.iload 4, 2) := dk_21 4 (dk_at dksX9_end_0 22 rfl rfl)
theorem dX9_end_24 : decode cX9_end 24 = .ok (.iaload, 1) := dk_46 (dk_at dksX9_end_1 0 rfl rfl)
theorem dX9_end_25 : decode cX9_end 25 = .ok (.aload_n 0, 1) := dk_42 (dk_at dksX9_end_1 1 rfl rfl)
theorem dX9_end_26 : decode cX9_end 26 = .ok (.getfield 15, 3) := dk_180 0 15 (dk_at dksX9_end_1 2 rfl rfl)
theorem dX9_end_29 : decode cX9_end 29 = .ok (.iload 4, 2) := dk_21 4 (dk_at dksX9_end_1 5 rfl rfl)
theorem dX9_end_31 : decode cX9_end 31 = .ok (.aaload, 1) := dk_50 (dk_at dksX9_end_1 7 rfl rfl)
theorem dX9_end_32 : decode cX9_end 32 = .ok (.getfield 71, 3) := dk_180 0 71 (dk_at dksX9_end_1 8 rfl rfl)
theorem dX9_end_35 : decode cX9_end 35 = .ok (.iload_n 2, 1) := dk_28 (dk_at dksX9_end_1 11 rfl rfl)
theorem dX9_end_36 : decode cX9_end 36 = .ok (.if_icmp .ne 7, 3) := dk_160 0 7 (dk_at dksX9_end_1 12 rfl rfl)
theorem dX9_end_39 : decode cX9_end 39 = .ok (.iconst 1, 1) := dk_4 (dk_at dksX9_end_1 15 rfl rfl)
theorem dX9_end_40 : decode cX9_end 40 = .ok (.goto 4, 3) := dk_167 0 4 (dk_at dksX9_end_1 16 rfl rfl)
theorem dX9_end_43 : decode cX9_end 43 = .ok (.iconst 0, 1) := dk_3 (dk_at dksX9_end_1 19 rfl rfl)
theorem dX9_end_44 : decode cX9_end 44 = .ok (.aload_n 0, 1) := dk_42 (dk_at dksX9_end_1 20 rfl rfl)
theorem dX9_end_45 : decode cX9_end 45 = .ok (.getfield 15, 3) := dk_180 0 15 (dk_at dksX9_end_1 21 rfl rfl)
theorem dX9_end_48 : decode cX9_end 48 = .ok (.iload 4, 2) := dk_21 4 (dk_at dksX9_end_2 0 rfl rfl)
theorem dX9_end_50 : decode cX9_end 50 = .ok (.aaload, 1) := dk_50 (dk_at dksX9_end_2 2 rfl rfl)
theorem dX9_end_51 : decode cX9_end 51 = .ok (.getfield 74, 3) := dk_180 0 74 (dk_at dksX9_end_2 3 rfl rfl)
theorem dX9_end_54 : decode cX9_end 54 = .ok (.iload_n 2, 1) := dk_28 (dk_at dksX9_end_2 6 rfl rfl)
theorem dX9_end_55 : decode cX9_end 55 = .ok (.if_icmp .ne 7, 3) := dk_160 0 7 (dk_at dksX9_end_2 7 rfl rfl)
theorem dX9_end_58 : decode cX9_end 58 = .ok (.iconst 1, 1) := dk_4 (dk_at dksX9_end_2 10 rfl rfl)
theorem dX9_end_59 : decode cX9_end 59 = .ok (.goto 4, 3) := dk_167 0 4 (dk_at dksX9_end_2 11 rfl rfl)
theorem dX9_end_62 : decode cX9_end 62 = .ok (.iconst 0, 1) := dk_3 (dk_at dksX9_end_2 14 rfl rfl)
theorem dX9_end_63 : decode cX9_end 63 = .ok (.isub, 1) := dk_100 (dk_at dksX9_end_2 15 rfl rfl)
theorem dX9_end_64 : decode cX9_end 64 = .ok (.imul, 1) := dk_104 (dk_at dksX9_end_2 16 rfl rfl)
theorem dX9_end_65 : decode cX9_end 65 = .ok (.iadd, 1) := dk_96 (dk_at dksX9_end_2 17 rfl rfl)
theorem dX9_end_66 : decode cX9_end 66 = .ok (.istore_n 3, 1) := dk_62 (dk_at dksX9_end_2 18 rfl rfl)
theorem dX9_end_67 : decode cX9_end 67 = .ok (.iinc 4 1, 3) := dk_132 4 1 (dk_at dksX9_end_2 19 rfl rfl)
theorem dX9_end_70 : decode cX9_end 70 = .ok (.goto (-65), 3) := dk_167 255 191 (dk_at dksX9_end_3 0 rfl rfl)
theorem dX9_end_73 : decode cX9_end 73 = .ok (.iload_n 3, 1) := dk_29 (dk_at dksX9_end_3 3 rfl rfl)
theorem dX9_end_74 : decode cX9_end 74 = .ok (.ireturn, 1) := dk_172 (dk_at dksX9_end_3 4 rfl rfl)
abbrev cX9_isCycle : ByteArray := prog_3_method_18_code
def yX9_isCycle : MethodName := ⟨RX9, "isCycle", "(I)Z"⟩
def dkwX9_isCycle_1 : List UInt8 := [167, 0, 4, 3, 126, 61, 132, 3, 1, 167, 255, 228, 28, 172]
abbrev dktX9_isCycle_1 : List UInt8 := dkwX9_isCycle_1 ++ []
def dkwX9_isCycle_0 : List UInt8 := [4, 61, 3, 62, 29, 42, 180, 0, 9, 162, 0, 26, 28, 42, 27, 29, 182, 0, 169, 154, 0, 7, 4]
abbrev dktX9_isCycle_0 : List UInt8 := dkwX9_isCycle_0 ++ dktX9_isCycle_1
theorem dksX9_isCycle_0 : cX9_isCycle.data.toList.drop 0 = dktX9_isCycle_0 := by decide +kernel
theorem dksX9_isCycle_1 : cX9_isCycle.data.toList.drop 23 = dktX9_isCycle_1 := dk_seg dksX9_isCycle_0 23 rfl rfl
theorem dX9_isCycle_0 : decode cX9_isCycle 0 = .ok (.iconst 1, 1) := dk_4 (dk_at dksX9_isCycle_0 0 rfl rfl)
theorem dX9_isCycle_1 : decode cX9_isCycle 1 = .ok (.istore_n 2, 1) := dk_61 (dk_at dksX9_isCycle_0 1 rfl rfl)
theorem dX9_isCycle_2 : decode cX9_isCycle 2 = .ok (.iconst 0, 1) := dk_3 (dk_at dksX9_isCycle_0 2 rfl rfl)
theorem dX9_isCycle_3 : decode cX9_isCycle 3 = .ok (.istore_n 3, 1) := dk_62 (dk_at dksX9_isCycle_0 3 rfl rfl)
theorem dX9_isCycle_4 : decode cX9_isCycle 4 = .ok (.iload_n 3, 1) := dk_29 (dk_at dksX9_isCycle_0 4 rfl rfl)
theorem dX9_isCycle_5 : decode cX9_isCycle 5 = .ok (.aload_n 0, 1) := dk_42 (dk_at dksX9_isCycle_0 5 rfl rfl)
theorem dX9_isCycle_6 : decode cX9_isCycle 6 = .ok (.getfield 9, 3) := dk_180 0 9 (dk_at dksX9_isCycle_0 6 rfl rfl)
theorem dX9_isCycle_9 : decode cX9_isCycle 9 = .ok (.if_icmp .ge 26, 3) := dk_162 0 26 (dk_at dksX9_isCycle_0 9 rfl rfl)
theorem dX9_isCycle_12 : decode cX9_isCycle 12 = .ok (.iload_n 2, 1) := dk_28 (dk_at dksX9_isCycle_0 12 rfl rfl)
theorem dX9_isCycle_13 : decode cX9_isCycle 13 = .ok (.aload_n 0, 1) := dk_42 (dk_at dksX9_isCycle_0 13 rfl rfl)
theorem dX9_isCycle_14 : decode cX9_isCycle 14 = .ok (.iload_n 1, 1) := dk_27 (dk_at dksX9_isCycle_0 14 rfl rfl)
theorem dX9_isCycle_15 : decode cX9_isCycle 15 = .ok (.iload_n 3, 1) := dk_29 (dk_at dksX9_isCycle_0 15 rfl rfl)
theorem dX9_isCycle_16 : decode cX9_isCycle 16 = .ok (.invokevirtual 169, 3) := dk_182 0 169 (dk_at dksX9_isCycle_0 16 rfl rfl)
theorem dX9_isCycle_19 : decode cX9_isCycle 19 = .ok (.ifCond .ne 7, 3) := dk_154 0 7 (dk_at dksX9_isCycle_0 19 rfl rfl)
theorem dX9_isCycle_22 : decode cX9_isCycle 22 = .ok (.iconst 1, 1) := dk_4 (dk_at dksX9_isCycle_0 22 rfl rfl)
theorem dX9_isCycle_23 : decode cX9_isCycle 23 = .ok (.goto 4, 3) := dk_167 0 4 (dk_at dksX9_isCycle_1 0 rfl rfl)
theorem dX9_isCycle_26 : decode cX9_isCycle 26 = .ok (.iconst 0, 1) := dk_3 (dk_at dksX9_isCycle_1 3 rfl rfl)
theorem dX9_isCycle_27 : decode cX9_isCycle 27 = .ok (.iand, 1) := dk_126 (dk_at dksX9_isCycle_1 4 rfl rfl)
theorem dX9_isCycle_28 : decode cX9_isCycle 28 = .ok (.istore_n 2, 1) := dk_61 (dk_at dksX9_isCycle_1 5 rfl rfl)
theorem dX9_isCycle_29 : decode cX9_isCycle 29 = .ok (.iinc 3 1, 3) := dk_132 3 1 (dk_at dksX9_isCycle_1 6 rfl rfl)
theorem dX9_isCycle_32 : decode cX9_isCycle 32 = .ok (.goto (-28), 3) := dk_167 255 228 (dk_at dksX9_isCycle_1 9 rfl rfl)
theorem dX9_isCycle_35 : decode cX9_isCycle 35 = .ok (.iload_n 2, 1) := dk_28 (dk_at dksX9_isCycle_1 12 rfl rfl)
theorem dX9_isCycle_36 : decode cX9_isCycle 36 = .ok (.ireturn, 1) := dk_172 (dk_at dksX9_isCycle_1 13 rfl rfl)
abbrev cX9_order : ByteArray := prog_3_method_19_code
def yX9_order : MethodName := ⟨RX9, "order", "(I)I"⟩
def dkwX9_order_5 : List UInt8 := [55, 4, 132, 6, 1, 167, 255, 161, 22, 4, 136, 172]
abbrev dktX9_order_5 : List UInt8 := dkwX9_order_5 ++ []
def dkwX9_order_4 : List UInt8 := [22, 9, 22, 7, 184, 0, 180, 109, 55, 9, 22, 4, 22, 4, 22, 9, 184, 0, 180, 109, 22, 9, 105]
abbrev dktX9_order_4 : List UInt8 := dkwX9_order_4 ++ dktX9_order_5
def dkwX9_order_3 : List UInt8 := [161, 0, 6, 167, 0, 45, 44, 180, 0, 67, 21, 6, 50, 21, 6, 47, 184, 0, 176, 55, 9, 22, 9]
abbrev dktX9_order_3 : List UInt8 := dkwX9_order_3 ++ dktX9_order_4
def dkwX9_order_2 : List UInt8 := [47, 55, 7, 21, 6, 29, 161, 0, 13, 22, 7, 9, 148, 153, 0, 6, 18, 175, 172, 21, 6, 29]
abbrev dktX9_order_2 : List UInt8 := dkwX9_order_2 ++ dktX9_order_3
def dkwX9_order_1 : List UInt8 := [54, 6, 21, 6, 44, 180, 0, 77, 162, 0, 92, 44, 180, 0, 67, 21, 6, 50, 44, 180, 0, 64, 4, 100]
abbrev dktX9_order_1 : List UInt8 := dkwX9_order_1 ++ dktX9_order_2
def dkwX9_order_0 : List UInt8 := [42, 5, 182, 0, 88, 42, 27, 182, 0, 120, 182, 0, 124, 77, 44, 182, 0, 172, 62, 10, 55, 4, 3]
abbrev dktX9_order_0 : List UInt8 := dkwX9_order_0 ++ dktX9_order_1
theorem dksX9_order_0 : cX9_order.data.toList.drop 0 = dktX9_order_0 := by decide +kernel
theorem dksX9_order_1 : cX9_order.data.toList.drop 23 = dktX9_order_1 := dk_seg dksX9_order_0 23 rfl rfl
theorem dksX9_order_2 : cX9_order.data.toList.drop 47 = dktX9_order_2 := dk_seg dksX9_order_1 24 rfl rfl
theorem dksX9_order_3 : cX9_order.data.toList.drop 69 = dktX9_order_3 := dk_seg dksX9_order_2 22 rfl rfl
theorem dksX9_order_4 : cX9_order.data.toList.drop 92 = dktX9_order_4 := dk_seg dksX9_order_3 23 rfl rfl
theorem dksX9_order_5 : cX9_order.data.toList.drop 115 = dktX9_order_5 := dk_seg dksX9_order_4 23 rfl rfl
theorem dX9_order_0 : decode cX9_order 0 = .ok (.aload_n 0, 1) := dk_42 (dk_at dksX9_order_0 0 rfl rfl)
theorem dX9_order_1 : decode cX9_order 1 = .ok (.iconst 2, 1) := dk_5 (dk_at dksX9_order_0 1 rfl rfl)
theorem dX9_order_2 : decode cX9_order 2 = .ok (.invokevirtual 88, 3) := dk_182 0 88 (dk_at dksX9_order_0 2 rfl rfl)
theorem dX9_order_5 : decode cX9_order 5 = .ok (.aload_n 0, 1) := dk_42 (dk_at dksX9_order_0 5 rfl rfl)
theorem dX9_order_6 : decode cX9_order 6 = .ok (.iload_n 1, 1) := dk_27 (dk_at dksX9_order_0 6 rfl rfl)
theorem dX9_order_7 : decode cX9_order 7 = .ok (.invokevirtual 120, 3) := dk_182 0 120 (dk_at dksX9_order_0 7 rfl rfl)
theorem dX9_order_10 : decode cX9_order 10 = .ok (.invokevirtual 124, 3) := dk_182 0 124 (dk_at dksX9_order_0 10 rfl rfl)
theorem dX9_order_13 : decode cX9_order 13 = .ok (.astore_n 2, 1) := dk_77 (dk_at dksX9_order_0 13 rfl rfl)
theorem dX9_order_14 : decode cX9_order 14 = .ok (.aload_n 2, 1) := dk_44 (dk_at dksX9_order_0 14 rfl rfl)
theorem dX9_order_15 : decode cX9_order 15 = .ok (.invokevirtual 172, 3) := dk_182 0 172 (dk_at dksX9_order_0 15 rfl rfl)
theorem dX9_order_18 : decode cX9_order 18 = .ok (.istore_n 3, 1) := dk_62 (dk_at dksX9_order_0 18 rfl rfl)
theorem dX9_order_19 : decode cX9_order 19 = .ok (.lconst 1, 1) := dk_10 (dk_at dksX9_order_0 19 rfl rfl)
theorem dX9_order_20 : decode cX9_order 20 = .ok (.lstore 4, 2) := dk_55 4 (dk_at dksX9_order_0 20 rfl rfl)
theorem dX9_order_22 : decode cX9_order 22 = .ok (.iconst 0, 1) := dk_3 (dk_at dksX9_order_0 22 rfl rfl)
theorem dX9_order_23 : decode cX9_order 23 = .ok (.istore 6, 2) := dk_54 6 (dk_at dksX9_order_1 0 rfl rfl)
theorem dX9_order_25 : decode cX9_order 25 = .ok (.iload 6, 2) := dk_21 6 (dk_at dksX9_order_1 2 rfl rfl)
theorem dX9_order_27 : decode cX9_order 27 = .ok (.aload_n 2, 1) := dk_44 (dk_at dksX9_order_1 4 rfl rfl)
theorem dX9_order_28 : decode cX9_order 28 = .ok (.getfield 77, 3) := dk_180 0 77 (dk_at dksX9_order_1 5 rfl rfl)
theorem dX9_order_31 : decode cX9_order 31 = .ok (.if_icmp .ge 92, 3) := dk_162 0 92 (dk_at dksX9_order_1 8 rfl rfl)
theorem dX9_order_34 : decode cX9_order 34 = .ok (.aload_n 2, 1) := dk_44 (dk_at dksX9_order_1 11 rfl rfl)
theorem dX9_order_35 : decode cX9_order 35 = .ok (.getfield 67, 3) := dk_180 0 67 (dk_at dksX9_order_1 12 rfl rfl)
theorem dX9_order_38 : decode cX9_order 38 = .ok (.iload 6, 2) := dk_21 6 (dk_at dksX9_order_1 15 rfl rfl)
theorem dX9_order_40 : decode cX9_order 40 = .ok (.aaload, 1) := dk_50 (dk_at dksX9_order_1 17 rfl rfl)
theorem dX9_order_41 : decode cX9_order 41 = .ok (.aload_n 2, 1) := dk_44 (dk_at dksX9_order_1 18 rfl rfl)
theorem dX9_order_42 : decode cX9_order 42 = .ok (.getfield 64, 3) := dk_180 0 64 (dk_at dksX9_order_1 19 rfl rfl)
theorem dX9_order_45 : decode cX9_order 45 = .ok (.iconst 1, 1) := dk_4 (dk_at dksX9_order_1 22 rfl rfl)
theorem dX9_order_46 : decode cX9_order 46 = .ok (.isub, 1) := dk_100 (dk_at dksX9_order_1 23 rfl rfl)
theorem dX9_order_47 : decode cX9_order 47 = .ok (.laload, 1) := dk_47 (dk_at dksX9_order_2 0 rfl rfl)
theorem dX9_order_48 : decode cX9_order 48 = .ok (.lstore 7, 2) := dk_55 7 (dk_at dksX9_order_2 1 rfl rfl)
theorem dX9_order_50 : decode cX9_order 50 = .ok (.iload 6, 2) := dk_21 6 (dk_at dksX9_order_2 3 rfl rfl)
theorem dX9_order_52 : decode cX9_order 52 = .ok (.iload_n 3, 1) := dk_29 (dk_at dksX9_order_2 5 rfl rfl)
theorem dX9_order_53 : decode cX9_order 53 = .ok (.if_icmp .lt 13, 3) := dk_161 0 13 (dk_at dksX9_order_2 6 rfl rfl)
theorem dX9_order_56 : decode cX9_order 56 = .ok (.lload 7, 2) := dk_22 7 (dk_at dksX9_order_2 9 rfl rfl)
theorem dX9_order_58 : decode cX9_order 58 = .ok (.lconst 0, 1) := dk_9 (dk_at dksX9_order_2 11 rfl rfl)
theorem dX9_order_59 : decode cX9_order 59 = .ok (.lcmp, 1) := dk_148 (dk_at dksX9_order_2 12 rfl rfl)
theorem dX9_order_60 : decode cX9_order 60 = .ok (.ifCond .eq 6, 3) := dk_153 0 6 (dk_at dksX9_order_2 13 rfl rfl)
theorem dX9_order_63 : decode cX9_order 63 = .ok (.ldc 175, 2) := dk_18 175 (dk_at dksX9_order_2 16 rfl rfl)
theorem dX9_order_65 : decode cX9_order 65 = .ok (.ireturn, 1) := dk_172 (dk_at dksX9_order_2 18 rfl rfl)
theorem dX9_order_66 : decode cX9_order 66 = .ok (.iload 6, 2) := dk_21 6 (dk_at dksX9_order_2 19 rfl rfl)
theorem dX9_order_68 : decode cX9_order 68 = .ok (.iload_n 3, 1) := dk_29 (dk_at dksX9_order_2 21 rfl rfl)
theorem dX9_order_69 : decode cX9_order 69 = .ok (.if_icmp .lt 6, 3) := dk_161 0 6 (dk_at dksX9_order_3 0 rfl rfl)
theorem dX9_order_72 : decode cX9_order 72 = .ok (.goto 45, 3) := dk_167 0 45 (dk_at dksX9_order_3 3 rfl rfl)
theorem dX9_order_75 : decode cX9_order 75 = .ok (.aload_n 2, 1) := dk_44 (dk_at dksX9_order_3 6 rfl rfl)
theorem dX9_order_76 : decode cX9_order 76 = .ok (.getfield 67, 3) := dk_180 0 67 (dk_at dksX9_order_3 7 rfl rfl)
theorem dX9_order_79 : decode cX9_order 79 = .ok (.iload 6, 2) := dk_21 6 (dk_at dksX9_order_3 10 rfl rfl)
theorem dX9_order_81 : decode cX9_order 81 = .ok (.aaload, 1) := dk_50 (dk_at dksX9_order_3 12 rfl rfl)
theorem dX9_order_82 : decode cX9_order 82 = .ok (.iload 6, 2) := dk_21 6 (dk_at dksX9_order_3 13 rfl rfl)
theorem dX9_order_84 : decode cX9_order 84 = .ok (.laload, 1) := dk_47 (dk_at dksX9_order_3 15 rfl rfl)
theorem dX9_order_85 : decode cX9_order 85 = .ok (.invokestatic 176, 3) := dk_184 0 176 (dk_at dksX9_order_3 16 rfl rfl)
theorem dX9_order_88 : decode cX9_order 88 = .ok (.lstore 9, 2) := dk_55 9 (dk_at dksX9_order_3 19 rfl rfl)
theorem dX9_order_90 : decode cX9_order 90 = .ok (.lload 9, 2) := dk_22 9 (dk_at dksX9_order_3 21 rfl rfl)
theorem dX9_order_92 : decode cX9_order 92 = .ok (.lload 9, 2) := dk_22 9 (dk_at dksX9_order_4 0 rfl rfl)
theorem dX9_order_94 : decode cX9_order 94 = .ok (.lload 7, 2) := dk_22 7 (dk_at dksX9_order_4 2 rfl rfl)
theorem dX9_order_96 : decode cX9_order 96 = .ok (.invokestatic 180, 3) := dk_184 0 180 (dk_at dksX9_order_4 4 rfl rfl)
theorem dX9_order_99 : decode cX9_order 99 = .ok (.ldiv, 1) := dk_109 (dk_at dksX9_order_4 7 rfl rfl)
theorem dX9_order_100 : decode cX9_order 100 = .ok (.lstore 9, 2) := dk_55 9 (dk_at dksX9_order_4 8 rfl rfl)
theorem dX9_order_102 : decode cX9_order 102 = .ok (.lload 4, 2) := dk_22 4 (dk_at dksX9_order_4 10 rfl rfl)
theorem dX9_order_104 : decode cX9_order 104 = .ok (.lload 4, 2) := dk_22 4 (dk_at dksX9_order_4 12 rfl rfl)
theorem dX9_order_106 : decode cX9_order 106 = .ok (.lload 9, 2) := dk_22 9 (dk_at dksX9_order_4 14 rfl rfl)
theorem dX9_order_108 : decode cX9_order 108 = .ok (.invokestatic 180, 3) := dk_184 0 180 (dk_at dksX9_order_4 16 rfl rfl)
theorem dX9_order_111 : decode cX9_order 111 = .ok (.ldiv, 1) := dk_109 (dk_at dksX9_order_4 19 rfl rfl)
theorem dX9_order_112 : decode cX9_order 112 = .ok (.lload 9, 2) := dk_22 9 (dk_at dksX9_order_4 20 rfl rfl)
theorem dX9_order_114 : decode cX9_order 114 = .ok (.lmul, 1) := dk_105 (dk_at dksX9_order_4 22 rfl rfl)
theorem dX9_order_115 : decode cX9_order 115 = .ok (.lstore 4, 2) := dk_55 4 (dk_at dksX9_order_5 0 rfl rfl)
theorem dX9_order_117 : decode cX9_order 117 = .ok (.iinc 6 1, 3) := dk_132 6 1 (dk_at dksX9_order_5 2 rfl rfl)
theorem dX9_order_120 : decode cX9_order 120 = .ok (.goto (-95), 3) := dk_167 255 161 (dk_at dksX9_order_5 5 rfl rfl)
theorem dX9_order_123 : decode cX9_order 123 = .ok (.lload 4, 2) := dk_22 4 (dk_at dksX9_order_5 8 rfl rfl)
theorem dX9_order_125 : decode cX9_order 125 = .ok (.l2i, 1) := dk_136 (dk_at dksX9_order_5 10 rfl rfl)
theorem dX9_order_126 : decode cX9_order 126 = .ok (.ireturn, 1) := dk_172 (dk_at dksX9_order_5 11 rfl rfl)
abbrev cX9_column : ByteArray := prog_3_method_11_code
def yX9_column : MethodName := ⟨RX9, "column", "(I)[J"⟩
def dkwX9_column_1 : List UInt8 := [29, 46, 133, 80, 132, 3, 1, 167, 255, 235, 44, 176]
abbrev dktX9_column_1 : List UInt8 := dkwX9_column_1 ++ []
def dkwX9_column_0 : List UInt8 := [42, 180, 0, 15, 190, 188, 11, 77, 3, 62, 29, 44, 190, 162, 0, 21, 44, 29, 42, 180, 0, 23, 27, 50]
abbrev dktX9_column_0 : List UInt8 := dkwX9_column_0 ++ dktX9_column_1
theorem dksX9_column_0 : cX9_column.data.toList.drop 0 = dktX9_column_0 := by decide +kernel
theorem dksX9_column_1 : cX9_column.data.toList.drop 24 = dktX9_column_1 := dk_seg dksX9_column_0 24 rfl rfl
theorem dX9_column_0 : decode cX9_column 0 = .ok (.aload_n 0, 1) := dk_42 (dk_at dksX9_column_0 0 rfl rfl)
theorem dX9_column_1 : decode cX9_column 1 = .ok (.getfield 15, 3) := dk_180 0 15 (dk_at dksX9_column_0 1 rfl rfl)
theorem dX9_column_4 : decode cX9_column 4 = .ok (.arraylength, 1) := dk_190 (dk_at dksX9_column_0 4 rfl rfl)
theorem dX9_column_5 : decode cX9_column 5 = .ok (.newarray .long, 2) := dk_188_11 (dk_at dksX9_column_0 5 rfl rfl)
theorem dX9_column_7 : decode cX9_column 7 = .ok (.astore_n 2, 1) := dk_77 (dk_at dksX9_column_0 7 rfl rfl)
theorem dX9_column_8 : decode cX9_column 8 = .ok (.iconst 0, 1) := dk_3 (dk_at dksX9_column_0 8 rfl rfl)
theorem dX9_column_9 : decode cX9_column 9 = .ok (.istore_n 3, 1) := dk_62 (dk_at dksX9_column_0 9 rfl rfl)
theorem dX9_column_10 : decode cX9_column 10 = .ok (.iload_n 3, 1) := dk_29 (dk_at dksX9_column_0 10 rfl rfl)
theorem dX9_column_11 : decode cX9_column 11 = .ok (.aload_n 2, 1) := dk_44 (dk_at dksX9_column_0 11 rfl rfl)
theorem dX9_column_12 : decode cX9_column 12 = .ok (.arraylength, 1) := dk_190 (dk_at dksX9_column_0 12 rfl rfl)
theorem dX9_column_13 : decode cX9_column 13 = .ok (.if_icmp .ge 21, 3) := dk_162 0 21 (dk_at dksX9_column_0 13 rfl rfl)
theorem dX9_column_16 : decode cX9_column 16 = .ok (.aload_n 2, 1) := dk_44 (dk_at dksX9_column_0 16 rfl rfl)
theorem dX9_column_17 : decode cX9_column 17 = .ok (.iload_n 3, 1) := dk_29 (dk_at dksX9_column_0 17 rfl rfl)
theorem dX9_column_18 : decode cX9_column 18 = .ok (.aload_n 0, 1) := dk_42 (dk_at dksX9_column_0 18 rfl rfl)
theorem dX9_column_19 : decode cX9_column 19 = .ok (.getfield 23, 3) := dk_180 0 23 (dk_at dksX9_column_0 19 rfl rfl)
theorem dX9_column_22 : decode cX9_column 22 = .ok (.iload_n 1, 1) := dk_27 (dk_at dksX9_column_0 22 rfl rfl)
theorem dX9_column_23 : decode cX9_column 23 = .ok (.aaload, 1) := dk_50 (dk_at dksX9_column_0 23 rfl rfl)
theorem dX9_column_24 : decode cX9_column 24 = .ok (.iload_n 3, 1) := dk_29 (dk_at dksX9_column_1 0 rfl rfl)
theorem dX9_column_25 : decode cX9_column 25 = .ok (.iaload, 1) := dk_46 (dk_at dksX9_column_1 1 rfl rfl)
theorem dX9_column_26 : decode cX9_column 26 = .ok (.i2l, 1) := dk_133 (dk_at dksX9_column_1 2 rfl rfl)
theorem dX9_column_27 : decode cX9_column 27 = .ok (.lastore, 1) := dk_80 (dk_at dksX9_column_1 3 rfl rfl)
theorem dX9_column_28 : decode cX9_column 28 = .ok (.iinc 3 1, 3) := dk_132 3 1 (dk_at dksX9_column_1 4 rfl rfl)
theorem dX9_column_31 : decode cX9_column 31 = .ok (.goto (-21), 3) := dk_167 255 235 (dk_at dksX9_column_1 7 rfl rfl)
theorem dX9_column_34 : decode cX9_column 34 = .ok (.aload_n 2, 1) := dk_44 (dk_at dksX9_column_1 10 rfl rfl)
theorem dX9_column_35 : decode cX9_column 35 = .ok (.areturn, 1) := dk_176 (dk_at dksX9_column_1 11 rfl rfl)
abbrev cX9_part : ByteArray := prog_3_method_14_code
def yX9_part : MethodName := ⟨RX9, "part", "(II)[LChainParts$Fraction;"⟩
def dkwX9_part_5 : List UInt8 := [182, 0, 155, 83, 132, 6, 1, 167, 255, 191, 25, 5, 176]
abbrev dktX9_part_5 : List UInt8 := dkwX9_part_5 ++ []
def dkwX9_part_4 : List UInt8 := [28, 6, 160, 0, 8, 25, 7, 167, 0, 20, 25, 7, 45, 21, 6, 50, 182, 0, 155, 25, 4, 21, 6, 50]
abbrev dktX9_part_4 : List UInt8 := dkwX9_part_4 ++ dktX9_part_5
def dkwX9_part_3 : List UInt8 := [187, 0, 139, 89, 42, 180, 0, 23, 27, 50, 21, 6, 46, 133, 10, 183, 0, 141, 58, 7, 25, 5, 21, 6]
abbrev dktX9_part_3 : List UInt8 := dkwX9_part_3 ++ dktX9_part_4
def dkwX9_part_2 : List UInt8 := [180, 0, 15, 190, 189, 0, 139, 58, 5, 3, 54, 6, 21, 6, 42, 180, 0, 15, 190, 162, 0, 61]
abbrev dktX9_part_2 : List UInt8 := dkwX9_part_2 ++ dktX9_part_3
def dkwX9_part_1 : List UInt8 := [182, 0, 148, 27, 182, 0, 144, 176, 42, 27, 3, 182, 0, 151, 78, 42, 27, 4, 182, 0, 151, 58, 4, 42]
abbrev dktX9_part_1 : List UInt8 := dkwX9_part_1 ++ dktX9_part_2
def dkwX9_part_0 : List UInt8 := [28, 154, 0, 14, 42, 42, 5, 182, 0, 88, 27, 182, 0, 144, 176, 28, 4, 160, 0, 13, 42, 42]
abbrev dktX9_part_0 : List UInt8 := dkwX9_part_0 ++ dktX9_part_1
theorem dksX9_part_0 : cX9_part.data.toList.drop 0 = dktX9_part_0 := by decide +kernel
theorem dksX9_part_1 : cX9_part.data.toList.drop 22 = dktX9_part_1 := dk_seg dksX9_part_0 22 rfl rfl
theorem dksX9_part_2 : cX9_part.data.toList.drop 46 = dktX9_part_2 := dk_seg dksX9_part_1 24 rfl rfl
theorem dksX9_part_3 : cX9_part.data.toList.drop 68 = dktX9_part_3 := dk_seg dksX9_part_2 22 rfl rfl
theorem dksX9_part_4 : cX9_part.data.toList.drop 92 = dktX9_part_4 := dk_seg dksX9_part_3 24 rfl rfl
theorem dksX9_part_5 : cX9_part.data.toList.drop 116 = dktX9_part_5 := dk_seg dksX9_part_4 24 rfl rfl
theorem dX9_part_0 : decode cX9_part 0 = .ok (.iload_n 2, 1) := dk_28 (dk_at dksX9_part_0 0 rfl rfl)
theorem dX9_part_1 : decode cX9_part 1 = .ok (.ifCond .ne 14, 3) := dk_154 0 14 (dk_at dksX9_part_0 1 rfl rfl)
theorem dX9_part_4 : decode cX9_part 4 = .ok (.aload_n 0, 1) := dk_42 (dk_at dksX9_part_0 4 rfl rfl)
theorem dX9_part_5 : decode cX9_part 5 = .ok (.aload_n 0, 1) := dk_42 (dk_at dksX9_part_0 5 rfl rfl)
theorem dX9_part_6 : decode cX9_part 6 = .ok (.iconst 2, 1) := dk_5 (dk_at dksX9_part_0 6 rfl rfl)
theorem dX9_part_7 : decode cX9_part 7 = .ok (.invokevirtual 88, 3) := dk_182 0 88 (dk_at dksX9_part_0 7 rfl rfl)
theorem dX9_part_10 : decode cX9_part 10 = .ok (.iload_n 1, 1) := dk_27 (dk_at dksX9_part_0 10 rfl rfl)
theorem dX9_part_11 : decode cX9_part 11 = .ok (.invokevirtual 144, 3) := dk_182 0 144 (dk_at dksX9_part_0 11 rfl rfl)
theorem dX9_part_14 : decode cX9_part 14 = .ok (.areturn, 1) := dk_176 (dk_at dksX9_part_0 14 rfl rfl)
theorem dX9_part_15 : decode cX9_part 15 = .ok (.iload_n 2, 1) := dk_28 (dk_at dksX9_part_0 15 rfl rfl)
theorem dX9_part_16 : decode cX9_part 16 = .ok (.iconst 1, 1) := dk_4 (dk_at dksX9_part_0 16 rfl rfl)
theorem dX9_part_17 : decode cX9_part 17 = .ok (.if_icmp .ne 13, 3) := dk_160 0 13 (dk_at dksX9_part_0 17 rfl rfl)
theorem dX9_part_20 : decode cX9_part 20 = .ok (.aload_n 0, 1) := dk_42 (dk_at dksX9_part_0 20 rfl rfl)
theorem dX9_part_21 : decode cX9_part 21 = .ok (.aload_n 0, 1) := dk_42 (dk_at dksX9_part_0 21 rfl rfl)
theorem dX9_part_22 : decode cX9_part 22 = .ok (.invokevirtual 148, 3) := dk_182 0 148 (dk_at dksX9_part_1 0 rfl rfl)
theorem dX9_part_25 : decode cX9_part 25 = .ok (.iload_n 1, 1) := dk_27 (dk_at dksX9_part_1 3 rfl rfl)
theorem dX9_part_26 : decode cX9_part 26 = .ok (.invokevirtual 144, 3) := dk_182 0 144 (dk_at dksX9_part_1 4 rfl rfl)
theorem dX9_part_29 : decode cX9_part 29 = .ok (.areturn, 1) := dk_176 (dk_at dksX9_part_1 7 rfl rfl)
theorem dX9_part_30 : decode cX9_part 30 = .ok (.aload_n 0, 1) := dk_42 (dk_at dksX9_part_1 8 rfl rfl)
theorem dX9_part_31 : decode cX9_part 31 = .ok (.iload_n 1, 1) := dk_27 (dk_at dksX9_part_1 9 rfl rfl)
theorem dX9_part_32 : decode cX9_part 32 = .ok (.iconst 0, 1) := dk_3 (dk_at dksX9_part_1 10 rfl rfl)
theorem dX9_part_33 : decode cX9_part 33 = .ok (.invokevirtual 151, 3) := dk_182 0 151 (dk_at dksX9_part_1 11 rfl rfl)
theorem dX9_part_36 : decode cX9_part 36 = .ok (.astore_n 3, 1) := dk_78 (dk_at dksX9_part_1 14 rfl rfl)
theorem dX9_part_37 : decode cX9_part 37 = .ok (.aload_n 0, 1) := dk_42 (dk_at dksX9_part_1 15 rfl rfl)
theorem dX9_part_38 : decode cX9_part 38 = .ok (.iload_n 1, 1) := dk_27 (dk_at dksX9_part_1 16 rfl rfl)
theorem dX9_part_39 : decode cX9_part 39 = .ok (.iconst 1, 1) := dk_4 (dk_at dksX9_part_1 17 rfl rfl)
theorem dX9_part_40 : decode cX9_part 40 = .ok (.invokevirtual 151, 3) := dk_182 0 151 (dk_at dksX9_part_1 18 rfl rfl)
theorem dX9_part_43 : decode cX9_part 43 = .ok (.astore 4, 2) := dk_58 4 (dk_at dksX9_part_1 21 rfl rfl)
theorem dX9_part_45 : decode cX9_part 45 = .ok (.aload_n 0, 1) := dk_42 (dk_at dksX9_part_1 23 rfl rfl)
theorem dX9_part_46 : decode cX9_part 46 = .ok (.getfield 15, 3) := dk_180 0 15 (dk_at dksX9_part_2 0 rfl rfl)
theorem dX9_part_49 : decode cX9_part 49 = .ok (.arraylength, 1) := dk_190 (dk_at dksX9_part_2 3 rfl rfl)
theorem dX9_part_50 : decode cX9_part 50 = .ok (.anewarray 139, 3) := dk_189 0 139 (dk_at dksX9_part_2 4 rfl rfl)
theorem dX9_part_53 : decode cX9_part 53 = .ok (.astore 5, 2) := dk_58 5 (dk_at dksX9_part_2 7 rfl rfl)
theorem dX9_part_55 : decode cX9_part 55 = .ok (.iconst 0, 1) := dk_3 (dk_at dksX9_part_2 9 rfl rfl)
theorem dX9_part_56 : decode cX9_part 56 = .ok (.istore 6, 2) := dk_54 6 (dk_at dksX9_part_2 10 rfl rfl)
theorem dX9_part_58 : decode cX9_part 58 = .ok (.iload 6, 2) := dk_21 6 (dk_at dksX9_part_2 12 rfl rfl)
theorem dX9_part_60 : decode cX9_part 60 = .ok (.aload_n 0, 1) := dk_42 (dk_at dksX9_part_2 14 rfl rfl)
theorem dX9_part_61 : decode cX9_part 61 = .ok (.getfield 15, 3) := dk_180 0 15 (dk_at dksX9_part_2 15 rfl rfl)
theorem dX9_part_64 : decode cX9_part 64 = .ok (.arraylength, 1) := dk_190 (dk_at dksX9_part_2 18 rfl rfl)
theorem dX9_part_65 : decode cX9_part 65 = .ok (.if_icmp .ge 61, 3) := dk_162 0 61 (dk_at dksX9_part_2 19 rfl rfl)
theorem dX9_part_68 : decode cX9_part 68 = .ok (.new 139, 3) := dk_187 0 139 (dk_at dksX9_part_3 0 rfl rfl)
theorem dX9_part_71 : decode cX9_part 71 = .ok (.dup, 1) := dk_89 (dk_at dksX9_part_3 3 rfl rfl)
theorem dX9_part_72 : decode cX9_part 72 = .ok (.aload_n 0, 1) := dk_42 (dk_at dksX9_part_3 4 rfl rfl)
theorem dX9_part_73 : decode cX9_part 73 = .ok (.getfield 23, 3) := dk_180 0 23 (dk_at dksX9_part_3 5 rfl rfl)
theorem dX9_part_76 : decode cX9_part 76 = .ok (.iload_n 1, 1) := dk_27 (dk_at dksX9_part_3 8 rfl rfl)
theorem dX9_part_77 : decode cX9_part 77 = .ok (.aaload, 1) := dk_50 (dk_at dksX9_part_3 9 rfl rfl)
theorem dX9_part_78 : decode cX9_part 78 = .ok (.iload 6, 2) := dk_21 6 (dk_at dksX9_part_3 10 rfl rfl)
theorem dX9_part_80 : decode cX9_part 80 = .ok (.iaload, 1) := dk_46 (dk_at dksX9_part_3 12 rfl rfl)
theorem dX9_part_81 : decode cX9_part 81 = .ok (.i2l, 1) := dk_133 (dk_at dksX9_part_3 13 rfl rfl)
theorem dX9_part_82 : decode cX9_part 82 = .ok (.lconst 1, 1) := dk_10 (dk_at dksX9_part_3 14 rfl rfl)
theorem dX9_part_83 : decode cX9_part 83 = .ok (.invokespecial 141, 3) := dk_183 0 141 (dk_at dksX9_part_3 15 rfl rfl)
theorem dX9_part_86 : decode cX9_part 86 = .ok (.astore 7, 2) := dk_58 7 (dk_at dksX9_part_3 18 rfl rfl)
theorem dX9_part_88 : decode cX9_part 88 = .ok (.aload 5, 2) := dk_25 5 (dk_at dksX9_part_3 20 rfl rfl)
theorem dX9_part_90 : decode cX9_part 90 = .ok (.iload 6, 2) := dk_21 6 (dk_at dksX9_part_3 22 rfl rfl)
theorem dX9_part_92 : decode cX9_part 92 = .ok (.iload_n 2, 1) := dk_28 (dk_at dksX9_part_4 0 rfl rfl)
theorem dX9_part_93 : decode cX9_part 93 = .ok (.iconst 3, 1) := dk_6 (dk_at dksX9_part_4 1 rfl rfl)
theorem dX9_part_94 : decode cX9_part 94 = .ok (.if_icmp .ne 8, 3) := dk_160 0 8 (dk_at dksX9_part_4 2 rfl rfl)
theorem dX9_part_97 : decode cX9_part 97 = .ok (.aload 7, 2) := dk_25 7 (dk_at dksX9_part_4 5 rfl rfl)
theorem dX9_part_99 : decode cX9_part 99 = .ok (.goto 20, 3) := dk_167 0 20 (dk_at dksX9_part_4 7 rfl rfl)
theorem dX9_part_102 : decode cX9_part 102 = .ok (.aload 7, 2) := dk_25 7 (dk_at dksX9_part_4 10 rfl rfl)
theorem dX9_part_104 : decode cX9_part 104 = .ok (.aload_n 3, 1) := dk_45 (dk_at dksX9_part_4 12 rfl rfl)
theorem dX9_part_105 : decode cX9_part 105 = .ok (.iload 6, 2) := dk_21 6 (dk_at dksX9_part_4 13 rfl rfl)
theorem dX9_part_107 : decode cX9_part 107 = .ok (.aaload, 1) := dk_50 (dk_at dksX9_part_4 15 rfl rfl)
theorem dX9_part_108 : decode cX9_part 108 = .ok (.invokevirtual 155, 3) := dk_182 0 155 (dk_at dksX9_part_4 16 rfl rfl)
theorem dX9_part_111 : decode cX9_part 111 = .ok (.aload 4, 2) := dk_25 4 (dk_at dksX9_part_4 19 rfl rfl)
theorem dX9_part_113 : decode cX9_part 113 = .ok (.iload 6, 2) := dk_21 6 (dk_at dksX9_part_4 21 rfl rfl)
theorem dX9_part_115 : decode cX9_part 115 = .ok (.aaload, 1) := dk_50 (dk_at dksX9_part_4 23 rfl rfl)
theorem dX9_part_116 : decode cX9_part 116 = .ok (.invokevirtual 155, 3) := dk_182 0 155 (dk_at dksX9_part_5 0 rfl rfl)
theorem dX9_part_119 : decode cX9_part 119 = .ok (.aastore, 1) := dk_83 (dk_at dksX9_part_5 3 rfl rfl)
theorem dX9_part_120 : decode cX9_part 120 = .ok (.iinc 6 1, 3) := dk_132 6 1 (dk_at dksX9_part_5 4 rfl rfl)
theorem dX9_part_123 : decode cX9_part 123 = .ok (.goto (-65), 3) := dk_167 255 191 (dk_at dksX9_part_5 7 rfl rfl)
theorem dX9_part_126 : decode cX9_part 126 = .ok (.aload 5, 2) := dk_25 5 (dk_at dksX9_part_5 10 rfl rfl)
theorem dX9_part_128 : decode cX9_part 128 = .ok (.areturn, 1) := dk_176 (dk_at dksX9_part_5 12 rfl rfl)
abbrev cX9_along : ByteArray := prog_3_method_13_code
def yX9_along : MethodName := ⟨RX9, "along", "(LChainParts$Table;I)[LChainParts$Fraction;"⟩
def dkwX9_along_14 : List UInt8 := [47, 22, 7, 183, 0, 141, 83, 132, 11, 1, 167, 255, 224, 25, 10, 176]
abbrev dktX9_along_14 : List UInt8 := dkwX9_along_14 ++ []
def dkwX9_along_13 : List UInt8 := [54, 11, 21, 11, 42, 180, 0, 15, 190, 162, 0, 28, 25, 10, 21, 11, 187, 0, 139, 89, 25, 9, 21, 11]
abbrev dktX9_along_13 : List UInt8 := dkwX9_along_13 ++ dktX9_along_14
def dkwX9_along_12 : List UInt8 := [80, 132, 14, 1, 167, 255, 221, 132, 10, 1, 167, 255, 147, 42, 180, 0, 15, 190, 189, 0, 139, 58, 10, 3]
abbrev dktX9_along_12 : List UInt8 := dkwX9_along_12 ++ dktX9_along_13
def dkwX9_along_11 : List UInt8 := [162, 0, 31, 25, 9, 21, 14, 92, 47, 25, 4, 180, 0, 67, 21, 14, 50, 21, 10, 47, 22, 12, 105, 97]
abbrev dktX9_along_11 : List UInt8 := dkwX9_along_11 ++ dktX9_along_12
def dkwX9_along_10 : List UInt8 := [132, 12, 1, 167, 255, 221, 25, 11, 182, 0, 132, 55, 12, 3, 54, 14, 21, 14, 42, 180, 0, 15, 190]
abbrev dktX9_along_10 : List UInt8 := dkwX9_along_10 ++ dktX9_along_11
def dkwX9_along_9 : List UInt8 := [25, 11, 180, 0, 67, 21, 12, 50, 21, 10, 42, 25, 4, 21, 12, 25, 5, 3, 182, 0, 128, 80]
abbrev dktX9_along_9 : List UInt8 := dkwX9_along_9 ++ dktX9_along_10
def dkwX9_along_8 : List UInt8 := [162, 0, 105, 25, 6, 182, 0, 136, 58, 11, 3, 54, 12, 21, 12, 25, 4, 180, 0, 64, 162, 0, 31]
abbrev dktX9_along_8 : List UInt8 := dkwX9_along_8 ++ dktX9_along_9
def dkwX9_along_7 : List UInt8 := [182, 0, 132, 55, 7, 42, 180, 0, 15, 190, 188, 11, 58, 9, 3, 54, 10, 21, 10, 25, 4, 180, 0, 64]
abbrev dktX9_along_7 : List UInt8 := dkwX9_along_7 ++ dktX9_along_8
def dkwX9_along_6 : List UInt8 := [21, 7, 25, 4, 21, 8, 182, 0, 128, 80, 132, 8, 1, 167, 255, 220, 132, 7, 1, 167, 255, 201, 25, 6]
abbrev dktX9_along_6 : List UInt8 := dkwX9_along_6 ++ dktX9_along_7
def dkwX9_along_5 : List UInt8 := [21, 8, 25, 4, 180, 0, 64, 162, 0, 32, 25, 6, 180, 0, 67, 21, 7, 50, 21, 8, 42, 25, 4]
abbrev dktX9_along_5 : List UInt8 := dkwX9_along_5 ++ dktX9_along_6
def dkwX9_along_4 : List UInt8 := [180, 0, 64, 183, 0, 61, 58, 6, 3, 54, 7, 21, 7, 25, 4, 180, 0, 64, 162, 0, 51, 3, 54, 8]
abbrev dktX9_along_4 : List UInt8 := dkwX9_along_4 ++ dktX9_along_5
def dkwX9_along_3 : List UInt8 := [183, 0, 61, 42, 28, 182, 0, 120, 182, 0, 124, 58, 5, 187, 0, 59, 89, 25, 4, 180, 0, 64, 25, 4]
abbrev dktX9_along_3 : List UInt8 := dkwX9_along_3 ++ dktX9_along_4
def dkwX9_along_2 : List UInt8 := [132, 4, 1, 167, 255, 213, 43, 29, 182, 0, 108, 58, 4, 187, 0, 59, 89, 42, 180, 0, 15, 190, 3]
abbrev dktX9_along_2 : List UInt8 := dkwX9_along_2 ++ dktX9_along_3
def dkwX9_along_1 : List UInt8 := [182, 0, 108, 182, 0, 111, 29, 184, 0, 115, 164, 0, 10, 4, 21, 4, 120, 167, 0, 4, 3, 128, 62]
abbrev dktX9_along_1 : List UInt8 := dkwX9_along_1 ++ dktX9_along_2
def dkwX9_along_0 : List UInt8 := [3, 62, 3, 54, 4, 21, 4, 43, 180, 0, 64, 162, 0, 40, 29, 43, 29, 4, 21, 4, 120, 128]
abbrev dktX9_along_0 : List UInt8 := dkwX9_along_0 ++ dktX9_along_1
theorem dksX9_along_0 : cX9_along.data.toList.drop 0 = dktX9_along_0 := by decide +kernel
theorem dksX9_along_1 : cX9_along.data.toList.drop 22 = dktX9_along_1 := dk_seg dksX9_along_0 22 rfl rfl
theorem dksX9_along_2 : cX9_along.data.toList.drop 45 = dktX9_along_2 := dk_seg dksX9_along_1 23 rfl rfl
theorem dksX9_along_3 : cX9_along.data.toList.drop 68 = dktX9_along_3 := dk_seg dksX9_along_2 23 rfl rfl
theorem dksX9_along_4 : cX9_along.data.toList.drop 92 = dktX9_along_4 := dk_seg dksX9_along_3 24 rfl rfl
theorem dksX9_along_5 : cX9_along.data.toList.drop 116 = dktX9_along_5 := dk_seg dksX9_along_4 24 rfl rfl
theorem dksX9_along_6 : cX9_along.data.toList.drop 139 = dktX9_along_6 := dk_seg dksX9_along_5 23 rfl rfl
theorem dksX9_along_7 : cX9_along.data.toList.drop 163 = dktX9_along_7 := dk_seg dksX9_along_6 24 rfl rfl
theorem dksX9_along_8 : cX9_along.data.toList.drop 187 = dktX9_along_8 := dk_seg dksX9_along_7 24 rfl rfl
theorem dksX9_along_9 : cX9_along.data.toList.drop 210 = dktX9_along_9 := dk_seg dksX9_along_8 23 rfl rfl
theorem dksX9_along_10 : cX9_along.data.toList.drop 232 = dktX9_along_10 := dk_seg dksX9_along_9 22 rfl rfl
theorem dksX9_along_11 : cX9_along.data.toList.drop 255 = dktX9_along_11 := dk_seg dksX9_along_10 23 rfl rfl
theorem dksX9_along_12 : cX9_along.data.toList.drop 279 = dktX9_along_12 := dk_seg dksX9_along_11 24 rfl rfl
theorem dksX9_along_13 : cX9_along.data.toList.drop 303 = dktX9_along_13 := dk_seg dksX9_along_12 24 rfl rfl
theorem dksX9_along_14 : cX9_along.data.toList.drop 327 = dktX9_along_14 := dk_seg dksX9_along_13 24 rfl rfl
theorem dX9_along_0 : decode cX9_along 0 = .ok (.iconst 0, 1) := dk_3 (dk_at dksX9_along_0 0 rfl rfl)
theorem dX9_along_1 : decode cX9_along 1 = .ok (.istore_n 3, 1) := dk_62 (dk_at dksX9_along_0 1 rfl rfl)
theorem dX9_along_2 : decode cX9_along 2 = .ok (.iconst 0, 1) := dk_3 (dk_at dksX9_along_0 2 rfl rfl)
theorem dX9_along_3 : decode cX9_along 3 = .ok (.istore 4, 2) := dk_54 4 (dk_at dksX9_along_0 3 rfl rfl)
theorem dX9_along_5 : decode cX9_along 5 = .ok (.iload 4, 2) := dk_21 4 (dk_at dksX9_along_0 5 rfl rfl)
theorem dX9_along_7 : decode cX9_along 7 = .ok (.aload_n 1, 1) := dk_43 (dk_at dksX9_along_0 7 rfl rfl)
theorem dX9_along_8 : decode cX9_along 8 = .ok (.getfield 64, 3) := dk_180 0 64 (dk_at dksX9_along_0 8 rfl rfl)
theorem dX9_along_11 : decode cX9_along 11 = .ok (.if_icmp .ge 40, 3) := dk_162 0 40 (dk_at dksX9_along_0 11 rfl rfl)
theorem dX9_along_14 : decode cX9_along 14 = .ok (.iload_n 3, 1) := dk_29 (dk_at dksX9_along_0 14 rfl rfl)
theorem dX9_along_15 : decode cX9_along 15 = .ok (.aload_n 1, 1) := dk_43 (dk_at dksX9_along_0 15 rfl rfl)
theorem dX9_along_16 : decode cX9_along 16 = .ok (.iload_n 3, 1) := dk_29 (dk_at dksX9_along_0 16 rfl rfl)
theorem dX9_along_17 : decode cX9_along 17 = .ok (.iconst 1, 1) := dk_4 (dk_at dksX9_along_0 17 rfl rfl)
theorem dX9_along_18 : decode cX9_along 18 = .ok (.iload 4, 2) := dk_21 4 (dk_at dksX9_along_0 18 rfl rfl)
theorem dX9_along_20 : decode cX9_along 20 = .ok (.ishl, 1) := dk_120 (dk_at dksX9_along_0 20 rfl rfl)
theorem dX9_along_21 : decode cX9_along 21 = .ok (.ior, 1) := dk_128 (dk_at dksX9_along_0 21 rfl rfl)
theorem dX9_along_22 : decode cX9_along 22 = .ok (.invokevirtual 108, 3) := dk_182 0 108 (dk_at dksX9_along_1 0 rfl rfl)
theorem dX9_along_25 : decode cX9_along 25 = .ok (.invokevirtual 111, 3) := dk_182 0 111 (dk_at dksX9_along_1 3 rfl rfl)
theorem dX9_along_28 : decode cX9_along 28 = .ok (.iload_n 3, 1) := dk_29 (dk_at dksX9_along_1 6 rfl rfl)
theorem dX9_along_29 : decode cX9_along 29 = .ok (.invokestatic 115, 3) := dk_184 0 115 (dk_at dksX9_along_1 7 rfl rfl)
theorem dX9_along_32 : decode cX9_along 32 = .ok (.if_icmp .le 10, 3) := dk_164 0 10 (dk_at dksX9_along_1 10 rfl rfl)
theorem dX9_along_35 : decode cX9_along 35 = .ok (.iconst 1, 1) := dk_4 (dk_at dksX9_along_1 13 rfl rfl)
theorem dX9_along_36 : decode cX9_along 36 = .ok (.iload 4, 2) := dk_21 4 (dk_at dksX9_along_1 14 rfl rfl)
theorem dX9_along_38 : decode cX9_along 38 = .ok (.ishl, 1) := dk_120 (dk_at dksX9_along_1 16 rfl rfl)
theorem dX9_along_39 : decode cX9_along 39 = .ok (.goto 4, 3) := dk_167 0 4 (dk_at dksX9_along_1 17 rfl rfl)
theorem dX9_along_42 : decode cX9_along 42 = .ok (.iconst 0, 1) := dk_3 (dk_at dksX9_along_1 20 rfl rfl)
theorem dX9_along_43 : decode cX9_along 43 = .ok (.ior, 1) := dk_128 (dk_at dksX9_along_1 21 rfl rfl)
theorem dX9_along_44 : decode cX9_along 44 = .ok (.istore_n 3, 1) := dk_62 (dk_at dksX9_along_1 22 rfl rfl)
theorem dX9_along_45 : decode cX9_along 45 = .ok (.iinc 4 1, 3) := dk_132 4 1 (dk_at dksX9_along_2 0 rfl rfl)
theorem dX9_along_48 : decode cX9_along 48 = .ok (.goto (-43), 3) := dk_167 255 213 (dk_at dksX9_along_2 3 rfl rfl)
theorem dX9_along_51 : decode cX9_along 51 = .ok (.aload_n 1, 1) := dk_43 (dk_at dksX9_along_2 6 rfl rfl)
theorem dX9_along_52 : decode cX9_along 52 = .ok (.iload_n 3, 1) := dk_29 (dk_at dksX9_along_2 7 rfl rfl)
theorem dX9_along_53 : decode cX9_along 53 = .ok (.invokevirtual 108, 3) := dk_182 0 108 (dk_at dksX9_along_2 8 rfl rfl)
theorem dX9_along_56 : decode cX9_along 56 = .ok (.astore 4, 2) := dk_58 4 (dk_at dksX9_along_2 11 rfl rfl)
theorem dX9_along_58 : decode cX9_along 58 = .ok (.new 59, 3) := dk_187 0 59 (dk_at dksX9_along_2 13 rfl rfl)
theorem dX9_along_61 : decode cX9_along 61 = .ok (.dup, 1) := dk_89 (dk_at dksX9_along_2 16 rfl rfl)
theorem dX9_along_62 : decode cX9_along 62 = .ok (.aload_n 0, 1) := dk_42 (dk_at dksX9_along_2 17 rfl rfl)
theorem dX9_along_63 : decode cX9_along 63 = .ok (.getfield 15, 3) := dk_180 0 15 (dk_at dksX9_along_2 18 rfl rfl)
theorem dX9_along_66 : decode cX9_along 66 = .ok (.arraylength, 1) := dk_190 (dk_at dksX9_along_2 21 rfl rfl)
theorem dX9_along_67 : decode cX9_along 67 = .ok (.iconst 0, 1) := dk_3 (dk_at dksX9_along_2 22 rfl rfl)
theorem dX9_along_68 : decode cX9_along 68 = .ok (.invokespecial 61, 3) := dk_183 0 61 (dk_at dksX9_along_3 0 rfl rfl)
theorem dX9_along_71 : decode cX9_along 71 = .ok (.aload_n 0, 1) := dk_42 (dk_at dksX9_along_3 3 rfl rfl)
theorem dX9_along_72 : decode cX9_along 72 = .ok (.iload_n 2, 1) := dk_28 (dk_at dksX9_along_3 4 rfl rfl)
theorem dX9_along_73 : decode cX9_along 73 = .ok (.invokevirtual 120, 3) := dk_182 0 120 (dk_at dksX9_along_3 5 rfl rfl)
theorem dX9_along_76 : decode cX9_along 76 = .ok (.invokevirtual 124, 3) := dk_182 0 124 (dk_at dksX9_along_3 8 rfl rfl)
theorem dX9_along_79 : decode cX9_along 79 = .ok (.astore 5, 2) := dk_58 5 (dk_at dksX9_along_3 11 rfl rfl)
theorem dX9_along_81 : decode cX9_along 81 = .ok (.new 59, 3) := dk_187 0 59 (dk_at dksX9_along_3 13 rfl rfl)
theorem dX9_along_84 : decode cX9_along 84 = .ok (.dup, 1) := dk_89 (dk_at dksX9_along_3 16 rfl rfl)
theorem dX9_along_85 : decode cX9_along 85 = .ok (.aload 4, 2) := dk_25 4 (dk_at dksX9_along_3 17 rfl rfl)
theorem dX9_along_87 : decode cX9_along 87 = .ok (.getfield 64, 3) := dk_180 0 64 (dk_at dksX9_along_3 19 rfl rfl)
theorem dX9_along_90 : decode cX9_along 90 = .ok (.aload 4, 2) := dk_25 4 (dk_at dksX9_along_3 22 rfl rfl)
theorem dX9_along_92 : decode cX9_along 92 = .ok (.getfield 64, 3) := dk_180 0 64 (dk_at dksX9_along_4 0 rfl rfl)
theorem dX9_along_95 : decode cX9_along 95 = .ok (.invokespecial 61, 3) := dk_183 0 61 (dk_at dksX9_along_4 3 rfl rfl)
theorem dX9_along_98 : decode cX9_along 98 = .ok (.astore 6, 2) := dk_58 6 (dk_at dksX9_along_4 6 rfl rfl)
theorem dX9_along_100 : decode cX9_along 100 = .ok (.iconst 0, 1) := dk_3 (dk_at dksX9_along_4 8 rfl rfl)
theorem dX9_along_101 : decode cX9_along 101 = .ok (.istore 7, 2) := dk_54 7 (dk_at dksX9_along_4 9 rfl rfl)
theorem dX9_along_103 : decode cX9_along 103 = .ok (.iload 7, 2) := dk_21 7 (dk_at dksX9_along_4 11 rfl rfl)
theorem dX9_along_105 : decode cX9_along 105 = .ok (.aload 4, 2) := dk_25 4 (dk_at dksX9_along_4 13 rfl rfl)
theorem dX9_along_107 : decode cX9_along 107 = .ok (.getfield 64, 3) := dk_180 0 64 (dk_at dksX9_along_4 15 rfl rfl)
theorem dX9_along_110 : decode cX9_along 110 = .ok (.if_icmp .ge 51, 3) := dk_162 0 51 (dk_at dksX9_along_4 18 rfl rfl)
theorem dX9_along_113 : decode cX9_along 113 = .ok (.iconst 0, 1) := dk_3 (dk_at dksX9_along_4 21 rfl rfl)
theorem dX9_along_114 : decode cX9_along 114 = .ok (.istore 8, 2) := dk_54 8 (dk_at dksX9_along_4 22 rfl rfl)
theorem dX9_along_116 : decode cX9_along 116 = .ok (.iload 8, 2) := dk_21 8 (dk_at dksX9_along_5 0 rfl rfl)
theorem dX9_along_118 : decode cX9_along 118 = .ok (.aload 4, 2) := dk_25 4 (dk_at dksX9_along_5 2 rfl rfl)
theorem dX9_along_120 : decode cX9_along 120 = .ok (.getfield 64, 3) := dk_180 0 64 (dk_at dksX9_along_5 4 rfl rfl)
theorem dX9_along_123 : decode cX9_along 123 = .ok (.if_icmp .ge 32, 3) := dk_162 0 32 (dk_at dksX9_along_5 7 rfl rfl)
theorem dX9_along_126 : decode cX9_along 126 = .ok (.aload 6, 2) := dk_25 6 (dk_at dksX9_along_5 10 rfl rfl)
theorem dX9_along_128 : decode cX9_along 128 = .ok (.getfield 67, 3) := dk_180 0 67 (dk_at dksX9_along_5 12 rfl rfl)
theorem dX9_along_131 : decode cX9_along 131 = .ok (.iload 7, 2) := dk_21 7 (dk_at dksX9_along_5 15 rfl rfl)
theorem dX9_along_133 : decode cX9_along 133 = .ok (.aaload, 1) := dk_50 (dk_at dksX9_along_5 17 rfl rfl)
theorem dX9_along_134 : decode cX9_along 134 = .ok (.iload 8, 2) := dk_21 8 (dk_at dksX9_along_5 18 rfl rfl)
theorem dX9_along_136 : decode cX9_along 136 = .ok (.aload_n 0, 1) := dk_42 (dk_at dksX9_along_5 20 rfl rfl)
theorem dX9_along_137 : decode cX9_along 137 = .ok (.aload 4, 2) := dk_25 4 (dk_at dksX9_along_5 21 rfl rfl)
theorem dX9_along_139 : decode cX9_along 139 = .ok (.iload 7, 2) := dk_21 7 (dk_at dksX9_along_6 0 rfl rfl)
theorem dX9_along_141 : decode cX9_along 141 = .ok (.aload 4, 2) := dk_25 4 (dk_at dksX9_along_6 2 rfl rfl)
theorem dX9_along_143 : decode cX9_along 143 = .ok (.iload 8, 2) := dk_21 8 (dk_at dksX9_along_6 4 rfl rfl)
theorem dX9_along_145 : decode cX9_along 145 = .ok (.invokevirtual 128, 3) := dk_182 0 128 (dk_at dksX9_along_6 6 rfl rfl)
theorem dX9_along_148 : decode cX9_along 148 = .ok (.lastore, 1) := dk_80 (dk_at dksX9_along_6 9 rfl rfl)
theorem dX9_along_149 : decode cX9_along 149 = .ok (.iinc 8 1, 3) := dk_132 8 1 (dk_at dksX9_along_6 10 rfl rfl)
theorem dX9_along_152 : decode cX9_along 152 = .ok (.goto (-36), 3) := dk_167 255 220 (dk_at dksX9_along_6 13 rfl rfl)
theorem dX9_along_155 : decode cX9_along 155 = .ok (.iinc 7 1, 3) := dk_132 7 1 (dk_at dksX9_along_6 16 rfl rfl)
theorem dX9_along_158 : decode cX9_along 158 = .ok (.goto (-55), 3) := dk_167 255 201 (dk_at dksX9_along_6 19 rfl rfl)
theorem dX9_along_161 : decode cX9_along 161 = .ok (.aload 6, 2) := dk_25 6 (dk_at dksX9_along_6 22 rfl rfl)
theorem dX9_along_163 : decode cX9_along 163 = .ok (.invokevirtual 132, 3) := dk_182 0 132 (dk_at dksX9_along_7 0 rfl rfl)
theorem dX9_along_166 : decode cX9_along 166 = .ok (.lstore 7, 2) := dk_55 7 (dk_at dksX9_along_7 3 rfl rfl)
theorem dX9_along_168 : decode cX9_along 168 = .ok (.aload_n 0, 1) := dk_42 (dk_at dksX9_along_7 5 rfl rfl)
theorem dX9_along_169 : decode cX9_along 169 = .ok (.getfield 15, 3) := dk_180 0 15 (dk_at dksX9_along_7 6 rfl rfl)
theorem dX9_along_172 : decode cX9_along 172 = .ok (.arraylength, 1) := dk_190 (dk_at dksX9_along_7 9 rfl rfl)
theorem dX9_along_173 : decode cX9_along 173 = .ok (.newarray .long, 2) := dk_188_11 (dk_at dksX9_along_7 10 rfl rfl)
theorem dX9_along_175 : decode cX9_along 175 = .ok (.astore 9, 2) := dk_58 9 (dk_at dksX9_along_7 12 rfl rfl)
theorem dX9_along_177 : decode cX9_along 177 = .ok (.iconst 0, 1) := dk_3 (dk_at dksX9_along_7 14 rfl rfl)
theorem dX9_along_178 : decode cX9_along 178 = .ok (.istore 10, 2) := dk_54 10 (dk_at dksX9_along_7 15 rfl rfl)
theorem dX9_along_180 : decode cX9_along 180 = .ok (.iload 10, 2) := dk_21 10 (dk_at dksX9_along_7 17 rfl rfl)
theorem dX9_along_182 : decode cX9_along 182 = .ok (.aload 4, 2) := dk_25 4 (dk_at dksX9_along_7 19 rfl rfl)
theorem dX9_along_184 : decode cX9_along 184 = .ok (.getfield 64, 3) := dk_180 0 64 (dk_at dksX9_along_7 21 rfl rfl)
theorem dX9_along_187 : decode cX9_along 187 = .ok (.if_icmp .ge 105, 3) := dk_162 0 105 (dk_at dksX9_along_8 0 rfl rfl)
theorem dX9_along_190 : decode cX9_along 190 = .ok (.aload 6, 2) := dk_25 6 (dk_at dksX9_along_8 3 rfl rfl)
theorem dX9_along_192 : decode cX9_along 192 = .ok (.invokevirtual 136, 3) := dk_182 0 136 (dk_at dksX9_along_8 5 rfl rfl)
theorem dX9_along_195 : decode cX9_along 195 = .ok (.astore 11, 2) := dk_58 11 (dk_at dksX9_along_8 8 rfl rfl)
theorem dX9_along_197 : decode cX9_along 197 = .ok (.iconst 0, 1) := dk_3 (dk_at dksX9_along_8 10 rfl rfl)
theorem dX9_along_198 : decode cX9_along 198 = .ok (.istore 12, 2) := dk_54 12 (dk_at dksX9_along_8 11 rfl rfl)
theorem dX9_along_200 : decode cX9_along 200 = .ok (.iload 12, 2) := dk_21 12 (dk_at dksX9_along_8 13 rfl rfl)
theorem dX9_along_202 : decode cX9_along 202 = .ok (.aload 4, 2) := dk_25 4 (dk_at dksX9_along_8 15 rfl rfl)
theorem dX9_along_204 : decode cX9_along 204 = .ok (.getfield 64, 3) := dk_180 0 64 (dk_at dksX9_along_8 17 rfl rfl)
theorem dX9_along_207 : decode cX9_along 207 = .ok (.if_icmp .ge 31, 3) := dk_162 0 31 (dk_at dksX9_along_8 20 rfl rfl)
theorem dX9_along_210 : decode cX9_along 210 = .ok (.aload 11, 2) := dk_25 11 (dk_at dksX9_along_9 0 rfl rfl)
theorem dX9_along_212 : decode cX9_along 212 = .ok (.getfield 67, 3) := dk_180 0 67 (dk_at dksX9_along_9 2 rfl rfl)
theorem dX9_along_215 : decode cX9_along 215 = .ok (.iload 12, 2) := dk_21 12 (dk_at dksX9_along_9 5 rfl rfl)
theorem dX9_along_217 : decode cX9_along 217 = .ok (.aaload, 1) := dk_50 (dk_at dksX9_along_9 7 rfl rfl)
theorem dX9_along_218 : decode cX9_along 218 = .ok (.iload 10, 2) := dk_21 10 (dk_at dksX9_along_9 8 rfl rfl)
theorem dX9_along_220 : decode cX9_along 220 = .ok (.aload_n 0, 1) := dk_42 (dk_at dksX9_along_9 10 rfl rfl)
theorem dX9_along_221 : decode cX9_along 221 = .ok (.aload 4, 2) := dk_25 4 (dk_at dksX9_along_9 11 rfl rfl)
theorem dX9_along_223 : decode cX9_along 223 = .ok (.iload 12, 2) := dk_21 12 (dk_at dksX9_along_9 13 rfl rfl)
theorem dX9_along_225 : decode cX9_along 225 = .ok (.aload 5, 2) := dk_25 5 (dk_at dksX9_along_9 15 rfl rfl)
theorem dX9_along_227 : decode cX9_along 227 = .ok (.iconst 0, 1) := dk_3 (dk_at dksX9_along_9 17 rfl rfl)
theorem dX9_along_228 : decode cX9_along 228 = .ok (.invokevirtual 128, 3) := dk_182 0 128 (dk_at dksX9_along_9 18 rfl rfl)
theorem dX9_along_231 : decode cX9_along 231 = .ok (.lastore, 1) := dk_80 (dk_at dksX9_along_9 21 rfl rfl)
theorem dX9_along_232 : decode cX9_along 232 = .ok (.iinc 12 1, 3) := dk_132 12 1 (dk_at dksX9_along_10 0 rfl rfl)
theorem dX9_along_235 : decode cX9_along 235 = .ok (.goto (-35), 3) := dk_167 255 221 (dk_at dksX9_along_10 3 rfl rfl)
theorem dX9_along_238 : decode cX9_along 238 = .ok (.aload 11, 2) := dk_25 11 (dk_at dksX9_along_10 6 rfl rfl)
theorem dX9_along_240 : decode cX9_along 240 = .ok (.invokevirtual 132, 3) := dk_182 0 132 (dk_at dksX9_along_10 8 rfl rfl)
theorem dX9_along_243 : decode cX9_along 243 = .ok (.lstore 12, 2) := dk_55 12 (dk_at dksX9_along_10 11 rfl rfl)
theorem dX9_along_245 : decode cX9_along 245 = .ok (.iconst 0, 1) := dk_3 (dk_at dksX9_along_10 13 rfl rfl)
theorem dX9_along_246 : decode cX9_along 246 = .ok (.istore 14, 2) := dk_54 14 (dk_at dksX9_along_10 14 rfl rfl)
theorem dX9_along_248 : decode cX9_along 248 = .ok (.iload 14, 2) := dk_21 14 (dk_at dksX9_along_10 16 rfl rfl)
theorem dX9_along_250 : decode cX9_along 250 = .ok (.aload_n 0, 1) := dk_42 (dk_at dksX9_along_10 18 rfl rfl)
theorem dX9_along_251 : decode cX9_along 251 = .ok (.getfield 15, 3) := dk_180 0 15 (dk_at dksX9_along_10 19 rfl rfl)
theorem dX9_along_254 : decode cX9_along 254 = .ok (.arraylength, 1) := dk_190 (dk_at dksX9_along_10 22 rfl rfl)
theorem dX9_along_255 : decode cX9_along 255 = .ok (.if_icmp .ge 31, 3) := dk_162 0 31 (dk_at dksX9_along_11 0 rfl rfl)
theorem dX9_along_258 : decode cX9_along 258 = .ok (.aload 9, 2) := dk_25 9 (dk_at dksX9_along_11 3 rfl rfl)
theorem dX9_along_260 : decode cX9_along 260 = .ok (.iload 14, 2) := dk_21 14 (dk_at dksX9_along_11 5 rfl rfl)
theorem dX9_along_262 : decode cX9_along 262 = .ok (.dup2, 1) := dk_92 (dk_at dksX9_along_11 7 rfl rfl)
theorem dX9_along_263 : decode cX9_along 263 = .ok (.laload, 1) := dk_47 (dk_at dksX9_along_11 8 rfl rfl)
theorem dX9_along_264 : decode cX9_along 264 = .ok (.aload 4, 2) := dk_25 4 (dk_at dksX9_along_11 9 rfl rfl)
theorem dX9_along_266 : decode cX9_along 266 = .ok (.getfield 67, 3) := dk_180 0 67 (dk_at dksX9_along_11 11 rfl rfl)
theorem dX9_along_269 : decode cX9_along 269 = .ok (.iload 14, 2) := dk_21 14 (dk_at dksX9_along_11 14 rfl rfl)
theorem dX9_along_271 : decode cX9_along 271 = .ok (.aaload, 1) := dk_50 (dk_at dksX9_along_11 16 rfl rfl)
theorem dX9_along_272 : decode cX9_along 272 = .ok (.iload 10, 2) := dk_21 10 (dk_at dksX9_along_11 17 rfl rfl)
theorem dX9_along_274 : decode cX9_along 274 = .ok (.laload, 1) := dk_47 (dk_at dksX9_along_11 19 rfl rfl)
theorem dX9_along_275 : decode cX9_along 275 = .ok (.lload 12, 2) := dk_22 12 (dk_at dksX9_along_11 20 rfl rfl)
theorem dX9_along_277 : decode cX9_along 277 = .ok (.lmul, 1) := dk_105 (dk_at dksX9_along_11 22 rfl rfl)
theorem dX9_along_278 : decode cX9_along 278 = .ok (.ladd, 1) := dk_97 (dk_at dksX9_along_11 23 rfl rfl)
theorem dX9_along_279 : decode cX9_along 279 = .ok (.lastore, 1) := dk_80 (dk_at dksX9_along_12 0 rfl rfl)
theorem dX9_along_280 : decode cX9_along 280 = .ok (.iinc 14 1, 3) := dk_132 14 1 (dk_at dksX9_along_12 1 rfl rfl)
theorem dX9_along_283 : decode cX9_along 283 = .ok (.goto (-35), 3) := dk_167 255 221 (dk_at dksX9_along_12 4 rfl rfl)
theorem dX9_along_286 : decode cX9_along 286 = .ok (.iinc 10 1, 3) := dk_132 10 1 (dk_at dksX9_along_12 7 rfl rfl)
theorem dX9_along_289 : decode cX9_along 289 = .ok (.goto (-109), 3) := dk_167 255 147 (dk_at dksX9_along_12 10 rfl rfl)
theorem dX9_along_292 : decode cX9_along 292 = .ok (.aload_n 0, 1) := dk_42 (dk_at dksX9_along_12 13 rfl rfl)
theorem dX9_along_293 : decode cX9_along 293 = .ok (.getfield 15, 3) := dk_180 0 15 (dk_at dksX9_along_12 14 rfl rfl)
theorem dX9_along_296 : decode cX9_along 296 = .ok (.arraylength, 1) := dk_190 (dk_at dksX9_along_12 17 rfl rfl)
theorem dX9_along_297 : decode cX9_along 297 = .ok (.anewarray 139, 3) := dk_189 0 139 (dk_at dksX9_along_12 18 rfl rfl)
theorem dX9_along_300 : decode cX9_along 300 = .ok (.astore 10, 2) := dk_58 10 (dk_at dksX9_along_12 21 rfl rfl)
theorem dX9_along_302 : decode cX9_along 302 = .ok (.iconst 0, 1) := dk_3 (dk_at dksX9_along_12 23 rfl rfl)
theorem dX9_along_303 : decode cX9_along 303 = .ok (.istore 11, 2) := dk_54 11 (dk_at dksX9_along_13 0 rfl rfl)
theorem dX9_along_305 : decode cX9_along 305 = .ok (.iload 11, 2) := dk_21 11 (dk_at dksX9_along_13 2 rfl rfl)
theorem dX9_along_307 : decode cX9_along 307 = .ok (.aload_n 0, 1) := dk_42 (dk_at dksX9_along_13 4 rfl rfl)
theorem dX9_along_308 : decode cX9_along 308 = .ok (.getfield 15, 3) := dk_180 0 15 (dk_at dksX9_along_13 5 rfl rfl)
theorem dX9_along_311 : decode cX9_along 311 = .ok (.arraylength, 1) := dk_190 (dk_at dksX9_along_13 8 rfl rfl)
theorem dX9_along_312 : decode cX9_along 312 = .ok (.if_icmp .ge 28, 3) := dk_162 0 28 (dk_at dksX9_along_13 9 rfl rfl)
theorem dX9_along_315 : decode cX9_along 315 = .ok (.aload 10, 2) := dk_25 10 (dk_at dksX9_along_13 12 rfl rfl)
theorem dX9_along_317 : decode cX9_along 317 = .ok (.iload 11, 2) := dk_21 11 (dk_at dksX9_along_13 14 rfl rfl)
theorem dX9_along_319 : decode cX9_along 319 = .ok (.new 139, 3) := dk_187 0 139 (dk_at dksX9_along_13 16 rfl rfl)
theorem dX9_along_322 : decode cX9_along 322 = .ok (.dup, 1) := dk_89 (dk_at dksX9_along_13 19 rfl rfl)
theorem dX9_along_323 : decode cX9_along 323 = .ok (.aload 9, 2) := dk_25 9 (dk_at dksX9_along_13 20 rfl rfl)
theorem dX9_along_325 : decode cX9_along 325 = .ok (.iload 11, 2) := dk_21 11 (dk_at dksX9_along_13 22 rfl rfl)
theorem dX9_along_327 : decode cX9_along 327 = .ok (.laload, 1) := dk_47 (dk_at dksX9_along_14 0 rfl rfl)
theorem dX9_along_328 : decode cX9_along 328 = .ok (.lload 7, 2) := dk_22 7 (dk_at dksX9_along_14 1 rfl rfl)
theorem dX9_along_330 : decode cX9_along 330 = .ok (.invokespecial 141, 3) := dk_183 0 141 (dk_at dksX9_along_14 3 rfl rfl)
theorem dX9_along_333 : decode cX9_along 333 = .ok (.aastore, 1) := dk_83 (dk_at dksX9_along_14 6 rfl rfl)
theorem dX9_along_334 : decode cX9_along 334 = .ok (.iinc 11 1, 3) := dk_132 11 1 (dk_at dksX9_along_14 7 rfl rfl)
theorem dX9_along_337 : decode cX9_along 337 = .ok (.goto (-32), 3) := dk_167 255 224 (dk_at dksX9_along_14 10 rfl rfl)
theorem dX9_along_340 : decode cX9_along 340 = .ok (.aload 10, 2) := dk_25 10 (dk_at dksX9_along_14 13 rfl rfl)
theorem dX9_along_342 : decode cX9_along 342 = .ok (.areturn, 1) := dk_176 (dk_at dksX9_along_14 15 rfl rfl)
abbrev cX9_product : ByteArray := prog_3_method_12_code
def yX9_product : MethodName := ⟨RX9, "product", "(LChainParts$Table;ILChainParts$Table;I)J"⟩
def dkwX9_product_2 : List UInt8 := [180, 0, 84, 108, 133, 105, 97, 55, 5, 132, 7, 1, 167, 255, 203, 22, 5, 173]
abbrev dktX9_product_2 : List UInt8 := dkwX9_product_2 ++ []
def dkwX9_product_1 : List UInt8 := [50, 28, 47, 45, 180, 0, 67, 21, 7, 50, 21, 4, 47, 105, 16, 6, 42, 180, 0, 15, 21, 7, 50]
abbrev dktX9_product_1 : List UInt8 := dkwX9_product_1 ++ dktX9_product_2
def dkwX9_product_0 : List UInt8 := [9, 55, 5, 3, 54, 7, 21, 7, 42, 180, 0, 15, 190, 162, 0, 49, 22, 5, 43, 180, 0, 67, 21, 7]
abbrev dktX9_product_0 : List UInt8 := dkwX9_product_0 ++ dktX9_product_1
theorem dksX9_product_0 : cX9_product.data.toList.drop 0 = dktX9_product_0 := by decide +kernel
theorem dksX9_product_1 : cX9_product.data.toList.drop 24 = dktX9_product_1 := dk_seg dksX9_product_0 24 rfl rfl
theorem dksX9_product_2 : cX9_product.data.toList.drop 47 = dktX9_product_2 := dk_seg dksX9_product_1 23 rfl rfl
theorem dX9_product_0 : decode cX9_product 0 = .ok (.lconst 0, 1) := dk_9 (dk_at dksX9_product_0 0 rfl rfl)
theorem dX9_product_1 : decode cX9_product 1 = .ok (.lstore 5, 2) := dk_55 5 (dk_at dksX9_product_0 1 rfl rfl)
theorem dX9_product_3 : decode cX9_product 3 = .ok (.iconst 0, 1) := dk_3 (dk_at dksX9_product_0 3 rfl rfl)
theorem dX9_product_4 : decode cX9_product 4 = .ok (.istore 7, 2) := dk_54 7 (dk_at dksX9_product_0 4 rfl rfl)
theorem dX9_product_6 : decode cX9_product 6 = .ok (.iload 7, 2) := dk_21 7 (dk_at dksX9_product_0 6 rfl rfl)
theorem dX9_product_8 : decode cX9_product 8 = .ok (.aload_n 0, 1) := dk_42 (dk_at dksX9_product_0 8 rfl rfl)
theorem dX9_product_9 : decode cX9_product 9 = .ok (.getfield 15, 3) := dk_180 0 15 (dk_at dksX9_product_0 9 rfl rfl)
theorem dX9_product_12 : decode cX9_product 12 = .ok (.arraylength, 1) := dk_190 (dk_at dksX9_product_0 12 rfl rfl)
theorem dX9_product_13 : decode cX9_product 13 = .ok (.if_icmp .ge 49, 3) := dk_162 0 49 (dk_at dksX9_product_0 13 rfl rfl)
theorem dX9_product_16 : decode cX9_product 16 = .ok (.lload 5, 2) := dk_22 5 (dk_at dksX9_product_0 16 rfl rfl)
theorem dX9_product_18 : decode cX9_product 18 = .ok (.aload_n 1, 1) := dk_43 (dk_at dksX9_product_0 18 rfl rfl)
theorem dX9_product_19 : decode cX9_product 19 = .ok (.getfield 67, 3) := dk_180 0 67 (dk_at dksX9_product_0 19 rfl rfl)
theorem dX9_product_22 : decode cX9_product 22 = .ok (.iload 7, 2) := dk_21 7 (dk_at dksX9_product_0 22 rfl rfl)
theorem dX9_product_24 : decode cX9_product 24 = .ok (.aaload, 1) := dk_50 (dk_at dksX9_product_1 0 rfl rfl)
theorem dX9_product_25 : decode cX9_product 25 = .ok (.iload_n 2, 1) := dk_28 (dk_at dksX9_product_1 1 rfl rfl)
theorem dX9_product_26 : decode cX9_product 26 = .ok (.laload, 1) := dk_47 (dk_at dksX9_product_1 2 rfl rfl)
theorem dX9_product_27 : decode cX9_product 27 = .ok (.aload_n 3, 1) := dk_45 (dk_at dksX9_product_1 3 rfl rfl)
theorem dX9_product_28 : decode cX9_product 28 = .ok (.getfield 67, 3) := dk_180 0 67 (dk_at dksX9_product_1 4 rfl rfl)
theorem dX9_product_31 : decode cX9_product 31 = .ok (.iload 7, 2) := dk_21 7 (dk_at dksX9_product_1 7 rfl rfl)
theorem dX9_product_33 : decode cX9_product 33 = .ok (.aaload, 1) := dk_50 (dk_at dksX9_product_1 9 rfl rfl)
theorem dX9_product_34 : decode cX9_product 34 = .ok (.iload 4, 2) := dk_21 4 (dk_at dksX9_product_1 10 rfl rfl)
theorem dX9_product_36 : decode cX9_product 36 = .ok (.laload, 1) := dk_47 (dk_at dksX9_product_1 12 rfl rfl)
theorem dX9_product_37 : decode cX9_product 37 = .ok (.lmul, 1) := dk_105 (dk_at dksX9_product_1 13 rfl rfl)
theorem dX9_product_38 : decode cX9_product 38 = .ok (.bipush 6, 2) := dk_16 6 (dk_at dksX9_product_1 14 rfl rfl)
theorem dX9_product_40 : decode cX9_product 40 = .ok (.aload_n 0, 1) := dk_42 (dk_at dksX9_product_1 16 rfl rfl)
theorem dX9_product_41 : decode cX9_product 41 = .ok (.getfield 15, 3) := dk_180 0 15 (dk_at dksX9_product_1 17 rfl rfl)
theorem dX9_product_44 : decode cX9_product 44 = .ok (.iload 7, 2) := dk_21 7 (dk_at dksX9_product_1 20 rfl rfl)
theorem dX9_product_46 : decode cX9_product 46 = .ok (.aaload, 1) := dk_50 (dk_at dksX9_product_1 22 rfl rfl)
theorem dX9_product_47 : decode cX9_product 47 = .ok (.getfield 84, 3) := dk_180 0 84 (dk_at dksX9_product_2 0 rfl rfl)
theorem dX9_product_50 : decode cX9_product 50 = .ok (.idiv, 1) := dk_108 (dk_at dksX9_product_2 3 rfl rfl)
theorem dX9_product_51 : decode cX9_product 51 = .ok (.i2l, 1) := dk_133 (dk_at dksX9_product_2 4 rfl rfl)
theorem dX9_product_52 : decode cX9_product 52 = .ok (.lmul, 1) := dk_105 (dk_at dksX9_product_2 5 rfl rfl)
theorem dX9_product_53 : decode cX9_product 53 = .ok (.ladd, 1) := dk_97 (dk_at dksX9_product_2 6 rfl rfl)
theorem dX9_product_54 : decode cX9_product 54 = .ok (.lstore 5, 2) := dk_55 5 (dk_at dksX9_product_2 7 rfl rfl)
theorem dX9_product_56 : decode cX9_product 56 = .ok (.iinc 7 1, 3) := dk_132 7 1 (dk_at dksX9_product_2 9 rfl rfl)
theorem dX9_product_59 : decode cX9_product 59 = .ok (.goto (-53), 3) := dk_167 255 203 (dk_at dksX9_product_2 12 rfl rfl)
theorem dX9_product_62 : decode cX9_product 62 = .ok (.lload 5, 2) := dk_22 5 (dk_at dksX9_product_2 15 rfl rfl)
theorem dX9_product_64 : decode cX9_product 64 = .ok (.lreturn, 1) := dk_173 (dk_at dksX9_product_2 17 rfl rfl)
abbrev cX9_driven : ByteArray := prog_3_method_15_code
def yX9_driven : MethodName := ⟨RX9, "driven", "()LChainParts$Table;"⟩
def dkwX9_driven_0 : List UInt8 := [42, 4, 182, 0, 88, 42, 4, 182, 0, 100, 182, 0, 104, 182, 0, 92, 176]
abbrev dktX9_driven_0 : List UInt8 := dkwX9_driven_0 ++ []
theorem dksX9_driven_0 : cX9_driven.data.toList.drop 0 = dktX9_driven_0 := by decide +kernel
theorem dX9_driven_0 : decode cX9_driven 0 = .ok (.aload_n 0, 1) := dk_42 (dk_at dksX9_driven_0 0 rfl rfl)
theorem dX9_driven_1 : decode cX9_driven 1 = .ok (.iconst 1, 1) := dk_4 (dk_at dksX9_driven_0 1 rfl rfl)
theorem dX9_driven_2 : decode cX9_driven 2 = .ok (.invokevirtual 88, 3) := dk_182 0 88 (dk_at dksX9_driven_0 2 rfl rfl)
theorem dX9_driven_5 : decode cX9_driven 5 = .ok (.aload_n 0, 1) := dk_42 (dk_at dksX9_driven_0 5 rfl rfl)
theorem dX9_driven_6 : decode cX9_driven 6 = .ok (.iconst 1, 1) := dk_4 (dk_at dksX9_driven_0 6 rfl rfl)
theorem dX9_driven_7 : decode cX9_driven 7 = .ok (.invokevirtual 100, 3) := dk_182 0 100 (dk_at dksX9_driven_0 7 rfl rfl)
theorem dX9_driven_10 : decode cX9_driven 10 = .ok (.invokevirtual 104, 3) := dk_182 0 104 (dk_at dksX9_driven_0 10 rfl rfl)
theorem dX9_driven_13 : decode cX9_driven 13 = .ok (.invokevirtual 92, 3) := dk_182 0 92 (dk_at dksX9_driven_0 13 rfl rfl)
theorem dX9_driven_16 : decode cX9_driven 16 = .ok (.areturn, 1) := dk_176 (dk_at dksX9_driven_0 16 rfl rfl)
abbrev cX9_length : ByteArray := prog_3_method_16_code
def yX9_length : MethodName := ⟨RX9, "length", "(II)LChainParts$Fraction;"⟩
def dkwX9_length_3 : List UInt8 := [183, 0, 141, 182, 0, 166, 58, 4, 132, 5, 1, 167, 255, 195, 25, 4, 176]
abbrev dktX9_length_3 : List UInt8 := dkwX9_length_3 ++ []
def dkwX9_length_2 : List UInt8 := [21, 5, 46, 133, 105, 45, 21, 5, 50, 180, 0, 163, 42, 180, 0, 15, 21, 5, 50, 180, 0, 84, 133, 105]
abbrev dktX9_length_2 : List UInt8 := dkwX9_length_2 ++ dktX9_length_3
def dkwX9_length_1 : List UInt8 := [190, 162, 0, 60, 25, 4, 187, 0, 139, 89, 45, 21, 5, 50, 180, 0, 159, 42, 180, 0, 23, 27, 50]
abbrev dktX9_length_1 : List UInt8 := dkwX9_length_1 ++ dktX9_length_2
def dkwX9_length_0 : List UInt8 := [42, 27, 28, 182, 0, 151, 78, 187, 0, 139, 89, 9, 10, 183, 0, 141, 58, 4, 3, 54, 5, 21, 5, 45]
abbrev dktX9_length_0 : List UInt8 := dkwX9_length_0 ++ dktX9_length_1
theorem dksX9_length_0 : cX9_length.data.toList.drop 0 = dktX9_length_0 := by decide +kernel
theorem dksX9_length_1 : cX9_length.data.toList.drop 24 = dktX9_length_1 := dk_seg dksX9_length_0 24 rfl rfl
theorem dksX9_length_2 : cX9_length.data.toList.drop 47 = dktX9_length_2 := dk_seg dksX9_length_1 23 rfl rfl
theorem dksX9_length_3 : cX9_length.data.toList.drop 71 = dktX9_length_3 := dk_seg dksX9_length_2 24 rfl rfl
theorem dX9_length_0 : decode cX9_length 0 = .ok (.aload_n 0, 1) := dk_42 (dk_at dksX9_length_0 0 rfl rfl)
theorem dX9_length_1 : decode cX9_length 1 = .ok (.iload_n 1, 1) := dk_27 (dk_at dksX9_length_0 1 rfl rfl)
theorem dX9_length_2 : decode cX9_length 2 = .ok (.iload_n 2, 1) := dk_28 (dk_at dksX9_length_0 2 rfl rfl)
theorem dX9_length_3 : decode cX9_length 3 = .ok (.invokevirtual 151, 3) := dk_182 0 151 (dk_at dksX9_length_0 3 rfl rfl)
theorem dX9_length_6 : decode cX9_length 6 = .ok (.astore_n 3, 1) := dk_78 (dk_at dksX9_length_0 6 rfl rfl)
theorem dX9_length_7 : decode cX9_length 7 = .ok (.new 139, 3) := dk_187 0 139 (dk_at dksX9_length_0 7 rfl rfl)
theorem dX9_length_10 : decode cX9_length 10 = .ok (.dup, 1) := dk_89 (dk_at dksX9_length_0 10 rfl rfl)
theorem dX9_length_11 : decode cX9_length 11 = .ok (.lconst 0, 1) := dk_9 (dk_at dksX9_length_0 11 rfl rfl)
theorem dX9_length_12 : decode cX9_length 12 = .ok (.lconst 1, 1) := dk_10 (dk_at dksX9_length_0 12 rfl rfl)
theorem dX9_length_13 : decode cX9_length 13 = .ok (.invokespecial 141, 3) := dk_183 0 141 (dk_at dksX9_length_0 13 rfl rfl)
theorem dX9_length_16 : decode cX9_length 16 = .ok (.astore 4, 2) := dk_58 4 (dk_at dksX9_length_0 16 rfl rfl)
theorem dX9_length_18 : decode cX9_length 18 = .ok (.iconst 0, 1) := dk_3 (dk_at dksX9_length_0 18 rfl rfl)
theorem dX9_length_19 : decode cX9_length 19 = .ok (.istore 5, 2) := dk_54 5 (dk_at dksX9_length_0 19 rfl rfl)
theorem dX9_length_21 : decode cX9_length 21 = .ok (.iload 5, 2) := dk_21 5 (dk_at dksX9_length_0 21 rfl rfl)
theorem dX9_length_23 : decode cX9_length 23 = .ok (.aload_n 3, 1) := dk_45 (dk_at dksX9_length_0 23 rfl rfl)
theorem dX9_length_24 : decode cX9_length 24 = .ok (.arraylength, 1) := dk_190 (dk_at dksX9_length_1 0 rfl rfl)
theorem dX9_length_25 : decode cX9_length 25 = .ok (.if_icmp .ge 60, 3) := dk_162 0 60 (dk_at dksX9_length_1 1 rfl rfl)
theorem dX9_length_28 : decode cX9_length 28 = .ok (.aload 4, 2) := dk_25 4 (dk_at dksX9_length_1 4 rfl rfl)
theorem dX9_length_30 : decode cX9_length 30 = .ok (.new 139, 3) := dk_187 0 139 (dk_at dksX9_length_1 6 rfl rfl)
theorem dX9_length_33 : decode cX9_length 33 = .ok (.dup, 1) := dk_89 (dk_at dksX9_length_1 9 rfl rfl)
theorem dX9_length_34 : decode cX9_length 34 = .ok (.aload_n 3, 1) := dk_45 (dk_at dksX9_length_1 10 rfl rfl)
theorem dX9_length_35 : decode cX9_length 35 = .ok (.iload 5, 2) := dk_21 5 (dk_at dksX9_length_1 11 rfl rfl)
theorem dX9_length_37 : decode cX9_length 37 = .ok (.aaload, 1) := dk_50 (dk_at dksX9_length_1 13 rfl rfl)
theorem dX9_length_38 : decode cX9_length 38 = .ok (.getfield 159, 3) := dk_180 0 159 (dk_at dksX9_length_1 14 rfl rfl)
theorem dX9_length_41 : decode cX9_length 41 = .ok (.aload_n 0, 1) := dk_42 (dk_at dksX9_length_1 17 rfl rfl)
theorem dX9_length_42 : decode cX9_length 42 = .ok (.getfield 23, 3) := dk_180 0 23 (dk_at dksX9_length_1 18 rfl rfl)
theorem dX9_length_45 : decode cX9_length 45 = .ok (.iload_n 1, 1) := dk_27 (dk_at dksX9_length_1 21 rfl rfl)
theorem dX9_length_46 : decode cX9_length 46 = .ok (.aaload, 1) := dk_50 (dk_at dksX9_length_1 22 rfl rfl)
theorem dX9_length_47 : decode cX9_length 47 = .ok (.iload 5, 2) := dk_21 5 (dk_at dksX9_length_2 0 rfl rfl)
theorem dX9_length_49 : decode cX9_length 49 = .ok (.iaload, 1) := dk_46 (dk_at dksX9_length_2 2 rfl rfl)
theorem dX9_length_50 : decode cX9_length 50 = .ok (.i2l, 1) := dk_133 (dk_at dksX9_length_2 3 rfl rfl)
theorem dX9_length_51 : decode cX9_length 51 = .ok (.lmul, 1) := dk_105 (dk_at dksX9_length_2 4 rfl rfl)
theorem dX9_length_52 : decode cX9_length 52 = .ok (.aload_n 3, 1) := dk_45 (dk_at dksX9_length_2 5 rfl rfl)
theorem dX9_length_53 : decode cX9_length 53 = .ok (.iload 5, 2) := dk_21 5 (dk_at dksX9_length_2 6 rfl rfl)
theorem dX9_length_55 : decode cX9_length 55 = .ok (.aaload, 1) := dk_50 (dk_at dksX9_length_2 8 rfl rfl)
theorem dX9_length_56 : decode cX9_length 56 = .ok (.getfield 163, 3) := dk_180 0 163 (dk_at dksX9_length_2 9 rfl rfl)
theorem dX9_length_59 : decode cX9_length 59 = .ok (.aload_n 0, 1) := dk_42 (dk_at dksX9_length_2 12 rfl rfl)
theorem dX9_length_60 : decode cX9_length 60 = .ok (.getfield 15, 3) := dk_180 0 15 (dk_at dksX9_length_2 13 rfl rfl)
theorem dX9_length_63 : decode cX9_length 63 = .ok (.iload 5, 2) := dk_21 5 (dk_at dksX9_length_2 16 rfl rfl)
theorem dX9_length_65 : decode cX9_length 65 = .ok (.aaload, 1) := dk_50 (dk_at dksX9_length_2 18 rfl rfl)
theorem dX9_length_66 : decode cX9_length 66 = .ok (.getfield 84, 3) := dk_180 0 84 (dk_at dksX9_length_2 19 rfl rfl)
theorem dX9_length_69 : decode cX9_length 69 = .ok (.i2l, 1) := dk_133 (dk_at dksX9_length_2 22 rfl rfl)
theorem dX9_length_70 : decode cX9_length 70 = .ok (.lmul, 1) := dk_105 (dk_at dksX9_length_2 23 rfl rfl)
theorem dX9_length_71 : decode cX9_length 71 = .ok (.invokespecial 141, 3) := dk_183 0 141 (dk_at dksX9_length_3 0 rfl rfl)
theorem dX9_length_74 : decode cX9_length 74 = .ok (.invokevirtual 166, 3) := dk_182 0 166 (dk_at dksX9_length_3 3 rfl rfl)
theorem dX9_length_77 : decode cX9_length 77 = .ok (.astore 4, 2) := dk_58 4 (dk_at dksX9_length_3 6 rfl rfl)
theorem dX9_length_79 : decode cX9_length 79 = .ok (.iinc 5 1, 3) := dk_132 5 1 (dk_at dksX9_length_3 8 rfl rfl)
theorem dX9_length_82 : decode cX9_length 82 = .ok (.goto (-61), 3) := dk_167 255 195 (dk_at dksX9_length_3 11 rfl rfl)
theorem dX9_length_85 : decode cX9_length 85 = .ok (.aload 4, 2) := dk_25 4 (dk_at dksX9_length_3 14 rfl rfl)
theorem dX9_length_87 : decode cX9_length 87 = .ok (.areturn, 1) := dk_176 (dk_at dksX9_length_3 16 rfl rfl)
abbrev cX9_trees : ByteArray := prog_3_method_21_code
def yX9_trees : MethodName := ⟨RX9, "trees", "(II)J"⟩
def dkwX9_trees_6 : List UInt8 := [22, 11, 105, 97, 55, 6, 132, 8, 1, 167, 255, 129, 22, 6, 173]
abbrev dktX9_trees_6 : List UInt8 := dkwX9_trees_6 ++ []
def dkwX9_trees_5 : List UInt8 := [28, 4, 160, 0, 12, 42, 21, 8, 182, 0, 191, 167, 0, 4, 10, 55, 11, 22, 6, 22, 9, 22, 11, 105]
abbrev dktX9_trees_5 : List UInt8 := dkwX9_trees_5 ++ dktX9_trees_6
def dkwX9_trees_4 : List UInt8 := [25, 4, 21, 11, 46, 133, 167, 0, 4, 10, 105, 55, 9, 132, 11, 1, 167, 255, 214, 27, 5, 160, 0, 17]
abbrev dktX9_trees_4 : List UInt8 := dkwX9_trees_4 ++ dktX9_trees_5
def dkwX9_trees_3 : List UInt8 := [45, 180, 0, 64, 162, 0, 39, 28, 4, 160, 0, 34, 22, 9, 21, 8, 21, 11, 184, 0, 188, 153, 0, 12]
abbrev dktX9_trees_3 : List UInt8 := dkwX9_trees_3 ++ dktX9_trees_4
def dkwX9_trees_2 : List UInt8 := [21, 8, 182, 0, 108, 182, 0, 111, 21, 5, 162, 0, 6, 167, 0, 89, 10, 55, 9, 3, 54, 11, 21, 11]
abbrev dktX9_trees_2 : List UInt8 := dkwX9_trees_2 ++ dktX9_trees_3
def dkwX9_trees_1 : List UInt8 := [54, 8, 21, 8, 4, 45, 180, 0, 64, 120, 162, 0, 122, 21, 8, 184, 0, 115, 21, 5, 160, 0, 106, 45]
abbrev dktX9_trees_1 : List UInt8 := dkwX9_trees_1 ++ dktX9_trees_2
def dkwX9_trees_0 : List UInt8 := [42, 27, 182, 0, 88, 78, 42, 27, 182, 0, 100, 58, 4, 45, 182, 0, 111, 54, 5, 9, 55, 6, 3]
abbrev dktX9_trees_0 : List UInt8 := dkwX9_trees_0 ++ dktX9_trees_1
theorem dksX9_trees_0 : cX9_trees.data.toList.drop 0 = dktX9_trees_0 := by decide +kernel
theorem dksX9_trees_1 : cX9_trees.data.toList.drop 23 = dktX9_trees_1 := dk_seg dksX9_trees_0 23 rfl rfl
theorem dksX9_trees_2 : cX9_trees.data.toList.drop 47 = dktX9_trees_2 := dk_seg dksX9_trees_1 24 rfl rfl
theorem dksX9_trees_3 : cX9_trees.data.toList.drop 71 = dktX9_trees_3 := dk_seg dksX9_trees_2 24 rfl rfl
theorem dksX9_trees_4 : cX9_trees.data.toList.drop 95 = dktX9_trees_4 := dk_seg dksX9_trees_3 24 rfl rfl
theorem dksX9_trees_5 : cX9_trees.data.toList.drop 119 = dktX9_trees_5 := dk_seg dksX9_trees_4 24 rfl rfl
theorem dksX9_trees_6 : cX9_trees.data.toList.drop 143 = dktX9_trees_6 := dk_seg dksX9_trees_5 24 rfl rfl
theorem dX9_trees_0 : decode cX9_trees 0 = .ok (.aload_n 0, 1) := dk_42 (dk_at dksX9_trees_0 0 rfl rfl)
theorem dX9_trees_1 : decode cX9_trees 1 = .ok (.iload_n 1, 1) := dk_27 (dk_at dksX9_trees_0 1 rfl rfl)
theorem dX9_trees_2 : decode cX9_trees 2 = .ok (.invokevirtual 88, 3) := dk_182 0 88 (dk_at dksX9_trees_0 2 rfl rfl)
theorem dX9_trees_5 : decode cX9_trees 5 = .ok (.astore_n 3, 1) := dk_78 (dk_at dksX9_trees_0 5 rfl rfl)
theorem dX9_trees_6 : decode cX9_trees 6 = .ok (.aload_n 0, 1) := dk_42 (dk_at dksX9_trees_0 6 rfl rfl)
theorem dX9_trees_7 : decode cX9_trees 7 = .ok (.iload_n 1, 1) := dk_27 (dk_at dksX9_trees_0 7 rfl rfl)
theorem dX9_trees_8 : decode cX9_trees 8 = .ok (.invokevirtual 100, 3) := dk_182 0 100 (dk_at dksX9_trees_0 8 rfl rfl)
theorem dX9_trees_11 : decode cX9_trees 11 = .ok (.astore 4, 2) := dk_58 4 (dk_at dksX9_trees_0 11 rfl rfl)
theorem dX9_trees_13 : decode cX9_trees 13 = .ok (.aload_n 3, 1) := dk_45 (dk_at dksX9_trees_0 13 rfl rfl)
theorem dX9_trees_14 : decode cX9_trees 14 = .ok (.invokevirtual 111, 3) := dk_182 0 111 (dk_at dksX9_trees_0 14 rfl rfl)
theorem dX9_trees_17 : decode cX9_trees 17 = .ok (.istore 5, 2) := dk_54 5 (dk_at dksX9_trees_0 17 rfl rfl)
theorem dX9_trees_19 : decode cX9_trees 19 = .ok (.lconst 0, 1) := dk_9 (dk_at dksX9_trees_0 19 rfl rfl)
theorem dX9_trees_20 : decode cX9_trees 20 = .ok (.lstore 6, 2) := dk_55 6 (dk_at dksX9_trees_0 20 rfl rfl)
theorem dX9_trees_22 : decode cX9_trees 22 = .ok (.iconst 0, 1) := dk_3 (dk_at dksX9_trees_0 22 rfl rfl)
theorem dX9_trees_23 : decode cX9_trees 23 = .ok (.istore 8, 2) := dk_54 8 (dk_at dksX9_trees_1 0 rfl rfl)
theorem dX9_trees_25 : decode cX9_trees 25 = .ok (.iload 8, 2) := dk_21 8 (dk_at dksX9_trees_1 2 rfl rfl)
theorem dX9_trees_27 : decode cX9_trees 27 = .ok (.iconst 1, 1) := dk_4 (dk_at dksX9_trees_1 4 rfl rfl)
theorem dX9_trees_28 : decode cX9_trees 28 = .ok (.aload_n 3, 1) := dk_45 (dk_at dksX9_trees_1 5 rfl rfl)
theorem dX9_trees_29 : decode cX9_trees 29 = .ok (.getfield 64, 3) := dk_180 0 64 (dk_at dksX9_trees_1 6 rfl rfl)
theorem dX9_trees_32 : decode cX9_trees 32 = .ok (.ishl, 1) := dk_120 (dk_at dksX9_trees_1 9 rfl rfl)
theorem dX9_trees_33 : decode cX9_trees 33 = .ok (.if_icmp .ge 122, 3) := dk_162 0 122 (dk_at dksX9_trees_1 10 rfl rfl)
theorem dX9_trees_36 : decode cX9_trees 36 = .ok (.iload 8, 2) := dk_21 8 (dk_at dksX9_trees_1 13 rfl rfl)
theorem dX9_trees_38 : decode cX9_trees 38 = .ok (.invokestatic 115, 3) := dk_184 0 115 (dk_at dksX9_trees_1 15 rfl rfl)
theorem dX9_trees_41 : decode cX9_trees 41 = .ok (.iload 5, 2) := dk_21 5 (dk_at dksX9_trees_1 18 rfl rfl)
theorem dX9_trees_43 : decode cX9_trees 43 = .ok (.if_icmp .ne 106, 3) := dk_160 0 106 (dk_at dksX9_trees_1 20 rfl rfl)
theorem dX9_trees_46 : decode cX9_trees 46 = .ok (.aload_n 3, 1) := dk_45 (dk_at dksX9_trees_1 23 rfl rfl)
theorem dX9_trees_47 : decode cX9_trees 47 = .ok (.iload 8, 2) := dk_21 8 (dk_at dksX9_trees_2 0 rfl rfl)
theorem dX9_trees_49 : decode cX9_trees 49 = .ok (.invokevirtual 108, 3) := dk_182 0 108 (dk_at dksX9_trees_2 2 rfl rfl)
theorem dX9_trees_52 : decode cX9_trees 52 = .ok (.invokevirtual 111, 3) := dk_182 0 111 (dk_at dksX9_trees_2 5 rfl rfl)
theorem dX9_trees_55 : decode cX9_trees 55 = .ok (.iload 5, 2) := dk_21 5 (dk_at dksX9_trees_2 8 rfl rfl)
theorem dX9_trees_57 : decode cX9_trees 57 = .ok (.if_icmp .ge 6, 3) := dk_162 0 6 (dk_at dksX9_trees_2 10 rfl rfl)
theorem dX9_trees_60 : decode cX9_trees 60 = .ok (.goto 89, 3) := dk_167 0 89 (dk_at dksX9_trees_2 13 rfl rfl)
theorem dX9_trees_63 : decode cX9_trees 63 = .ok (.lconst 1, 1) := dk_10 (dk_at dksX9_trees_2 16 rfl rfl)
theorem dX9_trees_64 : decode cX9_trees 64 = .ok (.lstore 9, 2) := dk_55 9 (dk_at dksX9_trees_2 17 rfl rfl)
theorem dX9_trees_66 : decode cX9_trees 66 = .ok (.iconst 0, 1) := dk_3 (dk_at dksX9_trees_2 19 rfl rfl)
theorem dX9_trees_67 : decode cX9_trees 67 = .ok (.istore 11, 2) := dk_54 11 (dk_at dksX9_trees_2 20 rfl rfl)
theorem dX9_trees_69 : decode cX9_trees 69 = .ok (.iload 11, 2) := dk_21 11 (dk_at dksX9_trees_2 22 rfl rfl)
theorem dX9_trees_71 : decode cX9_trees 71 = .ok (.aload_n 3, 1) := dk_45 (dk_at dksX9_trees_3 0 rfl rfl)
theorem dX9_trees_72 : decode cX9_trees 72 = .ok (.getfield 64, 3) := dk_180 0 64 (dk_at dksX9_trees_3 1 rfl rfl)
theorem dX9_trees_75 : decode cX9_trees 75 = .ok (.if_icmp .ge 39, 3) := dk_162 0 39 (dk_at dksX9_trees_3 4 rfl rfl)
theorem dX9_trees_78 : decode cX9_trees 78 = .ok (.iload_n 2, 1) := dk_28 (dk_at dksX9_trees_3 7 rfl rfl)
theorem dX9_trees_79 : decode cX9_trees 79 = .ok (.iconst 1, 1) := dk_4 (dk_at dksX9_trees_3 8 rfl rfl)
theorem dX9_trees_80 : decode cX9_trees 80 = .ok (.if_icmp .ne 34, 3) := dk_160 0 34 (dk_at dksX9_trees_3 9 rfl rfl)
theorem dX9_trees_83 : decode cX9_trees 83 = .ok (.lload 9, 2) := dk_22 9 (dk_at dksX9_trees_3 12 rfl rfl)
theorem dX9_trees_85 : decode cX9_trees 85 = .ok (.iload 8, 2) := dk_21 8 (dk_at dksX9_trees_3 14 rfl rfl)
theorem dX9_trees_87 : decode cX9_trees 87 = .ok (.iload 11, 2) := dk_21 11 (dk_at dksX9_trees_3 16 rfl rfl)
theorem dX9_trees_89 : decode cX9_trees 89 = .ok (.invokestatic 188, 3) := dk_184 0 188 (dk_at dksX9_trees_3 18 rfl rfl)
theorem dX9_trees_92 : decode cX9_trees 92 = .ok (.ifCond .eq 12, 3) := dk_153 0 12 (dk_at dksX9_trees_3 21 rfl rfl)
theorem dX9_trees_95 : decode cX9_trees 95 = .ok (.aload 4, 2) := dk_25 4 (dk_at dksX9_trees_4 0 rfl rfl)
theorem dX9_trees_97 : decode cX9_trees 97 = .ok (.iload 11, 2) := dk_21 11 (dk_at dksX9_trees_4 2 rfl rfl)
theorem dX9_trees_99 : decode cX9_trees 99 = .ok (.iaload, 1) := dk_46 (dk_at dksX9_trees_4 4 rfl rfl)
theorem dX9_trees_100 : decode cX9_trees 100 = .ok (.i2l, 1) := dk_133 (dk_at dksX9_trees_4 5 rfl rfl)
theorem dX9_trees_101 : decode cX9_trees 101 = .ok (.goto 4, 3) := dk_167 0 4 (dk_at dksX9_trees_4 6 rfl rfl)
theorem dX9_trees_104 : decode cX9_trees 104 = .ok (.lconst 1, 1) := dk_10 (dk_at dksX9_trees_4 9 rfl rfl)
theorem dX9_trees_105 : decode cX9_trees 105 = .ok (.lmul, 1) := dk_105 (dk_at dksX9_trees_4 10 rfl rfl)
theorem dX9_trees_106 : decode cX9_trees 106 = .ok (.lstore 9, 2) := dk_55 9 (dk_at dksX9_trees_4 11 rfl rfl)
theorem dX9_trees_108 : decode cX9_trees 108 = .ok (.iinc 11 1, 3) := dk_132 11 1 (dk_at dksX9_trees_4 13 rfl rfl)
theorem dX9_trees_111 : decode cX9_trees 111 = .ok (.goto (-42), 3) := dk_167 255 214 (dk_at dksX9_trees_4 16 rfl rfl)
theorem dX9_trees_114 : decode cX9_trees 114 = .ok (.iload_n 1, 1) := dk_27 (dk_at dksX9_trees_4 19 rfl rfl)
theorem dX9_trees_115 : decode cX9_trees 115 = .ok (.iconst 2, 1) := dk_5 (dk_at dksX9_trees_4 20 rfl rfl)
theorem dX9_trees_116 : decode cX9_trees 116 = .ok (.if_icmp .ne 17, 3) := dk_160 0 17 (dk_at dksX9_trees_4 21 rfl rfl)
theorem dX9_trees_119 : decode cX9_trees 119 = .ok (.iload_n 2, 1) := dk_28 (dk_at dksX9_trees_5 0 rfl rfl)
theorem dX9_trees_120 : decode cX9_trees 120 = .ok (.iconst 1, 1) := dk_4 (dk_at dksX9_trees_5 1 rfl rfl)
theorem dX9_trees_121 : decode cX9_trees 121 = .ok (.if_icmp .ne 12, 3) := dk_160 0 12 (dk_at dksX9_trees_5 2 rfl rfl)
theorem dX9_trees_124 : decode cX9_trees 124 = .ok (.aload_n 0, 1) := dk_42 (dk_at dksX9_trees_5 5 rfl rfl)
theorem dX9_trees_125 : decode cX9_trees 125 = .ok (.iload 8, 2) := dk_21 8 (dk_at dksX9_trees_5 6 rfl rfl)
theorem dX9_trees_127 : decode cX9_trees 127 = .ok (.invokevirtual 191, 3) := dk_182 0 191 (dk_at dksX9_trees_5 8 rfl rfl)
theorem dX9_trees_130 : decode cX9_trees 130 = .ok (.goto 4, 3) := dk_167 0 4 (dk_at dksX9_trees_5 11 rfl rfl)
theorem dX9_trees_133 : decode cX9_trees 133 = .ok (.lconst 1, 1) := dk_10 (dk_at dksX9_trees_5 14 rfl rfl)
theorem dX9_trees_134 : decode cX9_trees 134 = .ok (.lstore 11, 2) := dk_55 11 (dk_at dksX9_trees_5 15 rfl rfl)
theorem dX9_trees_136 : decode cX9_trees 136 = .ok (.lload 6, 2) := dk_22 6 (dk_at dksX9_trees_5 17 rfl rfl)
theorem dX9_trees_138 : decode cX9_trees 138 = .ok (.lload 9, 2) := dk_22 9 (dk_at dksX9_trees_5 19 rfl rfl)
theorem dX9_trees_140 : decode cX9_trees 140 = .ok (.lload 11, 2) := dk_22 11 (dk_at dksX9_trees_5 21 rfl rfl)
theorem dX9_trees_142 : decode cX9_trees 142 = .ok (.lmul, 1) := dk_105 (dk_at dksX9_trees_5 23 rfl rfl)
theorem dX9_trees_143 : decode cX9_trees 143 = .ok (.lload 11, 2) := dk_22 11 (dk_at dksX9_trees_6 0 rfl rfl)
theorem dX9_trees_145 : decode cX9_trees 145 = .ok (.lmul, 1) := dk_105 (dk_at dksX9_trees_6 2 rfl rfl)
theorem dX9_trees_146 : decode cX9_trees 146 = .ok (.ladd, 1) := dk_97 (dk_at dksX9_trees_6 3 rfl rfl)
theorem dX9_trees_147 : decode cX9_trees 147 = .ok (.lstore 6, 2) := dk_55 6 (dk_at dksX9_trees_6 4 rfl rfl)
theorem dX9_trees_149 : decode cX9_trees 149 = .ok (.iinc 8 1, 3) := dk_132 8 1 (dk_at dksX9_trees_6 6 rfl rfl)
theorem dX9_trees_152 : decode cX9_trees 152 = .ok (.goto (-127), 3) := dk_167 255 129 (dk_at dksX9_trees_6 9 rfl rfl)
theorem dX9_trees_155 : decode cX9_trees 155 = .ok (.lload 6, 2) := dk_22 6 (dk_at dksX9_trees_6 12 rfl rfl)
theorem dX9_trees_157 : decode cX9_trees 157 = .ok (.lreturn, 1) := dk_173 (dk_at dksX9_trees_6 14 rfl rfl)
abbrev cX9_minors : ByteArray := prog_3_method_22_code
def yX9_minors : MethodName := ⟨RX9, "minors", "(I)J"⟩
def dkwX9_minors_2 : List UInt8 := [167, 0, 4, 9, 97, 55, 4, 132, 6, 1, 167, 255, 215, 22, 4, 173]
abbrev dktX9_minors_2 : List UInt8 := dkwX9_minors_2 ++ []
def dkwX9_minors_1 : List UInt8 := [120, 162, 0, 36, 22, 4, 21, 6, 184, 0, 115, 29, 160, 0, 15, 44, 21, 6, 182, 0, 198, 182, 0, 132]
abbrev dktX9_minors_1 : List UInt8 := dkwX9_minors_1 ++ dktX9_minors_2
def dkwX9_minors_0 : List UInt8 := [42, 27, 182, 0, 195, 77, 44, 182, 0, 111, 62, 9, 55, 4, 3, 54, 6, 21, 6, 4, 44, 180, 0, 64]
abbrev dktX9_minors_0 : List UInt8 := dkwX9_minors_0 ++ dktX9_minors_1
theorem dksX9_minors_0 : cX9_minors.data.toList.drop 0 = dktX9_minors_0 := by decide +kernel
theorem dksX9_minors_1 : cX9_minors.data.toList.drop 24 = dktX9_minors_1 := dk_seg dksX9_minors_0 24 rfl rfl
theorem dksX9_minors_2 : cX9_minors.data.toList.drop 48 = dktX9_minors_2 := dk_seg dksX9_minors_1 24 rfl rfl
theorem dX9_minors_0 : decode cX9_minors 0 = .ok (.aload_n 0, 1) := dk_42 (dk_at dksX9_minors_0 0 rfl rfl)
theorem dX9_minors_1 : decode cX9_minors 1 = .ok (.iload_n 1, 1) := dk_27 (dk_at dksX9_minors_0 1 rfl rfl)
theorem dX9_minors_2 : decode cX9_minors 2 = .ok (.invokevirtual 195, 3) := dk_182 0 195 (dk_at dksX9_minors_0 2 rfl rfl)
theorem dX9_minors_5 : decode cX9_minors 5 = .ok (.astore_n 2, 1) := dk_77 (dk_at dksX9_minors_0 5 rfl rfl)
theorem dX9_minors_6 : decode cX9_minors 6 = .ok (.aload_n 2, 1) := dk_44 (dk_at dksX9_minors_0 6 rfl rfl)
theorem dX9_minors_7 : decode cX9_minors 7 = .ok (.invokevirtual 111, 3) := dk_182 0 111 (dk_at dksX9_minors_0 7 rfl rfl)
theorem dX9_minors_10 : decode cX9_minors 10 = .ok (.istore_n 3, 1) := dk_62 (dk_at dksX9_minors_0 10 rfl rfl)
theorem dX9_minors_11 : decode cX9_minors 11 = .ok (.lconst 0, 1) := dk_9 (dk_at dksX9_minors_0 11 rfl rfl)
theorem dX9_minors_12 : decode cX9_minors 12 = .ok (.lstore 4, 2) := dk_55 4 (dk_at dksX9_minors_0 12 rfl rfl)
theorem dX9_minors_14 : decode cX9_minors 14 = .ok (.iconst 0, 1) := dk_3 (dk_at dksX9_minors_0 14 rfl rfl)
theorem dX9_minors_15 : decode cX9_minors 15 = .ok (.istore 6, 2) := dk_54 6 (dk_at dksX9_minors_0 15 rfl rfl)
theorem dX9_minors_17 : decode cX9_minors 17 = .ok (.iload 6, 2) := dk_21 6 (dk_at dksX9_minors_0 17 rfl rfl)
theorem dX9_minors_19 : decode cX9_minors 19 = .ok (.iconst 1, 1) := dk_4 (dk_at dksX9_minors_0 19 rfl rfl)
theorem dX9_minors_20 : decode cX9_minors 20 = .ok (.aload_n 2, 1) := dk_44 (dk_at dksX9_minors_0 20 rfl rfl)
theorem dX9_minors_21 : decode cX9_minors 21 = .ok (.getfield 64, 3) := dk_180 0 64 (dk_at dksX9_minors_0 21 rfl rfl)
theorem dX9_minors_24 : decode cX9_minors 24 = .ok (.ishl, 1) := dk_120 (dk_at dksX9_minors_1 0 rfl rfl)
theorem dX9_minors_25 : decode cX9_minors 25 = .ok (.if_icmp .ge 36, 3) := dk_162 0 36 (dk_at dksX9_minors_1 1 rfl rfl)
theorem dX9_minors_28 : decode cX9_minors 28 = .ok (.lload 4, 2) := dk_22 4 (dk_at dksX9_minors_1 4 rfl rfl)
theorem dX9_minors_30 : decode cX9_minors 30 = .ok (.iload 6, 2) := dk_21 6 (dk_at dksX9_minors_1 6 rfl rfl)
theorem dX9_minors_32 : decode cX9_minors 32 = .ok (.invokestatic 115, 3) := dk_184 0 115 (dk_at dksX9_minors_1 8 rfl rfl)
theorem dX9_minors_35 : decode cX9_minors 35 = .ok (.iload_n 3, 1) := dk_29 (dk_at dksX9_minors_1 11 rfl rfl)
theorem dX9_minors_36 : decode cX9_minors 36 = .ok (.if_icmp .ne 15, 3) := dk_160 0 15 (dk_at dksX9_minors_1 12 rfl rfl)
theorem dX9_minors_39 : decode cX9_minors 39 = .ok (.aload_n 2, 1) := dk_44 (dk_at dksX9_minors_1 15 rfl rfl)
theorem dX9_minors_40 : decode cX9_minors 40 = .ok (.iload 6, 2) := dk_21 6 (dk_at dksX9_minors_1 16 rfl rfl)
theorem dX9_minors_42 : decode cX9_minors 42 = .ok (.invokevirtual 198, 3) := dk_182 0 198 (dk_at dksX9_minors_1 18 rfl rfl)
theorem dX9_minors_45 : decode cX9_minors 45 = .ok (.invokevirtual 132, 3) := dk_182 0 132 (dk_at dksX9_minors_1 21 rfl rfl)
theorem dX9_minors_48 : decode cX9_minors 48 = .ok (.goto 4, 3) := dk_167 0 4 (dk_at dksX9_minors_2 0 rfl rfl)
theorem dX9_minors_51 : decode cX9_minors 51 = .ok (.lconst 0, 1) := dk_9 (dk_at dksX9_minors_2 3 rfl rfl)
theorem dX9_minors_52 : decode cX9_minors 52 = .ok (.ladd, 1) := dk_97 (dk_at dksX9_minors_2 4 rfl rfl)
theorem dX9_minors_53 : decode cX9_minors 53 = .ok (.lstore 4, 2) := dk_55 4 (dk_at dksX9_minors_2 5 rfl rfl)
theorem dX9_minors_55 : decode cX9_minors 55 = .ok (.iinc 6 1, 3) := dk_132 6 1 (dk_at dksX9_minors_2 7 rfl rfl)
theorem dX9_minors_58 : decode cX9_minors 58 = .ok (.goto (-41), 3) := dk_167 255 215 (dk_at dksX9_minors_2 10 rfl rfl)
theorem dX9_minors_61 : decode cX9_minors 61 = .ok (.lload 4, 2) := dk_22 4 (dk_at dksX9_minors_2 13 rfl rfl)
theorem dX9_minors_63 : decode cX9_minors 63 = .ok (.lreturn, 1) := dk_173 (dk_at dksX9_minors_2 15 rfl rfl)
theorem q84 : (Jvm.Cond.initialized "ChainParts$Complex") ∈ lw_all := lw_g (lw_at lw_m1 13 rfl) rfl
theorem q282 : (Jvm.Cond.fieldLink "ChainParts$Complex" (74 : Nat) "ChainParts$EdgeCell" "from" "I") ∈ lw_all := lw_g (lw_at lw_m1 211 rfl) rfl
theorem q286 : (Jvm.Cond.fieldLink "ChainParts$Complex" (71 : Nat) "ChainParts$EdgeCell" "to" "I") ∈ lw_all := lw_g (lw_at lw_m1 215 rfl) rfl
theorem q290 : (Jvm.Cond.fieldLink "ChainParts$Complex" (84 : Nat) "ChainParts$EdgeCell" "weight" "I") ∈ lw_all := lw_g (lw_at lw_m1 219 rfl) rfl
theorem q332 : (Jvm.Cond.fieldLink "ChainParts$Complex" (87 : Nat) "ChainParts$FaceCell" "weight" "I") ∈ lw_all := lw_g (lw_at lw_m2 21 rfl) rfl
theorem q356 : (Jvm.Cond.instantiable "ChainParts$Complex" (4 : Nat)) ∈ lw_all := lw_g (lw_at lw_m2 45 rfl) rfl
theorem q360 : (Jvm.Cond.instanceMethod ({ cls := "ChainParts$Complex", name := "<init>", desc := "(I[LChainParts$EdgeCell;[LChainParts$FaceCell;[[I)V" } : Jvm.MethodName)) ∈ lw_all := lw_g (lw_at lw_m2 49 rfl) rfl
theorem q361 : (Jvm.Cond.code ({ cls := "ChainParts$Complex", name := "<init>", desc := "(I[LChainParts$EdgeCell;[LChainParts$FaceCell;[[I)V" } : Jvm.MethodName) prog_3_method_1_code (5 : Nat) (Option.none : Option Jvm.ClassFile.FieldType)) ∈ lw_all := lw_g (lw_at lw_m2 50 rfl) rfl
theorem q362 : (Jvm.Cond.methodLink "ChainParts$Complex" (3 : Nat) ({ cls := "java/lang/Object", name := "<init>", desc := "()V" } : Jvm.MethodName)) ∈ lw_all := lw_g (lw_at lw_m2 51 rfl) rfl
theorem q363 : (Jvm.Cond.fieldLink "ChainParts$Complex" (9 : Nat) "ChainParts$Complex" "points" "I") ∈ lw_all := lw_g (lw_at lw_m2 52 rfl) rfl
theorem q365 : (Jvm.Cond.fieldLink "ChainParts$Complex" (15 : Nat) "ChainParts$Complex" "edges" "[LChainParts$EdgeCell;") ∈ lw_all := lw_g (lw_at lw_m2 54 rfl) rfl
theorem q367 : (Jvm.Cond.fieldLink "ChainParts$Complex" (19 : Nat) "ChainParts$Complex" "faces" "[LChainParts$FaceCell;") ∈ lw_all := lw_g (lw_at lw_m2 56 rfl) rfl
theorem q369 : (Jvm.Cond.fieldLink "ChainParts$Complex" (23 : Nat) "ChainParts$Complex" "chains" "[[I") ∈ lw_all := lw_g (lw_at lw_m2 58 rfl) rfl
theorem q371 : (Jvm.Cond.laysFinal "ChainParts$Complex" "ChainParts$Complex" "points" "I") ∈ lw_all := lw_g (lw_at lw_m2 60 rfl) rfl
theorem q372 : (Jvm.Cond.soleField "ChainParts$Complex" "points") ∈ lw_all := lw_g (lw_at lw_m2 61 rfl) rfl
theorem q373 : (Jvm.Cond.laysFinal "ChainParts$Complex" "ChainParts$Complex" "edges" "[LChainParts$EdgeCell;") ∈ lw_all := lw_g (lw_at lw_m2 62 rfl) rfl
theorem q374 : (Jvm.Cond.soleField "ChainParts$Complex" "edges") ∈ lw_all := lw_g (lw_at lw_m2 63 rfl) rfl
theorem q375 : (Jvm.Cond.laysFinal "ChainParts$Complex" "ChainParts$Complex" "faces" "[LChainParts$FaceCell;") ∈ lw_all := lw_g (lw_at lw_m2 64 rfl) rfl
theorem q376 : (Jvm.Cond.soleField "ChainParts$Complex" "faces") ∈ lw_all := lw_g (lw_at lw_m2 65 rfl) rfl
theorem q377 : (Jvm.Cond.laysFinal "ChainParts$Complex" "ChainParts$Complex" "chains" "[[I") ∈ lw_all := lw_g (lw_at lw_m2 66 rfl) rfl
theorem q378 : (Jvm.Cond.soleField "ChainParts$Complex" "chains") ∈ lw_all := lw_g (lw_at lw_m2 67 rfl) rfl
theorem q379 : (Jvm.Cond.superclass "ChainParts$Complex" "java/lang/Object") ∈ lw_all := lw_g (lw_at lw_m2 68 rfl) rfl
theorem q400 : (Jvm.Cond.instanceMethod ({ cls := "ChainParts$Complex", name := "many", desc := "(I)I" } : Jvm.MethodName)) ∈ lw_all := lw_g (lw_at lw_m2 89 rfl) rfl
theorem q401 : (Jvm.Cond.selects "ChainParts$Complex" ({ cls := "ChainParts$Complex", name := "many", desc := "(I)I" } : Jvm.MethodName) ({ cls := "ChainParts$Complex", name := "many", desc := "(I)I" } : Jvm.MethodName)) ∈ lw_all := lw_g (lw_at lw_m2 90 rfl) rfl
theorem q402 : (Jvm.Cond.code ({ cls := "ChainParts$Complex", name := "many", desc := "(I)I" } : Jvm.MethodName) prog_3_method_24_code (2 : Nat) (Option.some Jvm.ClassFile.FieldType.int)) ∈ lw_all := lw_g (lw_at lw_m2 91 rfl) rfl
theorem q420 : (Jvm.Cond.instanceMethod ({ cls := "ChainParts$Complex", name := "withEdge", desc := "(ILChainParts$EdgeCell;)LChainParts$Complex;" } : Jvm.MethodName)) ∈ lw_all := lw_g (lw_at lw_m2 109 rfl) rfl
theorem q421 : (Jvm.Cond.selects "ChainParts$Complex" ({ cls := "ChainParts$Complex", name := "withEdge", desc := "(ILChainParts$EdgeCell;)LChainParts$Complex;" } : Jvm.MethodName) ({ cls := "ChainParts$Complex", name := "withEdge", desc := "(ILChainParts$EdgeCell;)LChainParts$Complex;" } : Jvm.MethodName)) ∈ lw_all := lw_g (lw_at lw_m2 110 rfl) rfl
theorem q422 : (Jvm.Cond.code ({ cls := "ChainParts$Complex", name := "withEdge", desc := "(ILChainParts$EdgeCell;)LChainParts$Complex;" } : Jvm.MethodName) prog_3_method_2_code (4 : Nat) (Option.some (Jvm.ClassFile.FieldType.object "ChainParts$Complex"))) ∈ lw_all := lw_g (lw_at lw_m2 111 rfl) rfl
theorem q423 : (Jvm.Cond.methodLink "ChainParts$Complex" (27 : Nat) ({ cls := "java/lang/Math", name := "max", desc := "(II)I" } : Jvm.MethodName)) ∈ lw_all := lw_g (lw_at lw_m2 112 rfl) rfl
theorem q426 : (Jvm.Cond.classLink "ChainParts$Complex" (33 : Nat) "ChainParts$EdgeCell") ∈ lw_all := lw_g (lw_at lw_m2 115 rfl) rfl
theorem q427 : (Jvm.Cond.methodLink "ChainParts$Complex" (35 : Nat) ({ cls := "java/lang/System", name := "arraycopy", desc := "(Ljava/lang/Object;ILjava/lang/Object;II)V" } : Jvm.MethodName)) ∈ lw_all := lw_g (lw_at lw_m2 116 rfl) rfl
theorem q428 : (Jvm.Cond.classLink "ChainParts$Complex" (10 : Nat) "ChainParts$Complex") ∈ lw_all := lw_g (lw_at lw_m2 117 rfl) rfl
theorem q429 : (Jvm.Cond.methodLink "ChainParts$Complex" (41 : Nat) ({ cls := "ChainParts$Complex", name := "<init>", desc := "(I[LChainParts$EdgeCell;[LChainParts$FaceCell;[[I)V" } : Jvm.MethodName)) ∈ lw_all := lw_g (lw_at lw_m2 118 rfl) rfl
theorem q443 : (Jvm.Cond.instanceMethod ({ cls := "ChainParts$Complex", name := "withFace", desc := "(ILChainParts$FaceCell;)LChainParts$Complex;" } : Jvm.MethodName)) ∈ lw_all := lw_g (lw_at lw_m2 132 rfl) rfl
theorem q444 : (Jvm.Cond.selects "ChainParts$Complex" ({ cls := "ChainParts$Complex", name := "withFace", desc := "(ILChainParts$FaceCell;)LChainParts$Complex;" } : Jvm.MethodName) ({ cls := "ChainParts$Complex", name := "withFace", desc := "(ILChainParts$FaceCell;)LChainParts$Complex;" } : Jvm.MethodName)) ∈ lw_all := lw_g (lw_at lw_m2 133 rfl) rfl
theorem q445 : (Jvm.Cond.code ({ cls := "ChainParts$Complex", name := "withFace", desc := "(ILChainParts$FaceCell;)LChainParts$Complex;" } : Jvm.MethodName) prog_3_method_3_code (4 : Nat) (Option.some (Jvm.ClassFile.FieldType.object "ChainParts$Complex"))) ∈ lw_all := lw_g (lw_at lw_m2 134 rfl) rfl
theorem q446 : (Jvm.Cond.classLink "ChainParts$Complex" (44 : Nat) "ChainParts$FaceCell") ∈ lw_all := lw_g (lw_at lw_m2 135 rfl) rfl
theorem q472 : (Jvm.Cond.instanceMethod ({ cls := "ChainParts$Complex", name := "isUsed", desc := "(I)Z" } : Jvm.MethodName)) ∈ lw_all := lw_g (lw_at lw_m2 161 rfl) rfl
theorem q473 : (Jvm.Cond.selects "ChainParts$Complex" ({ cls := "ChainParts$Complex", name := "isUsed", desc := "(I)Z" } : Jvm.MethodName) ({ cls := "ChainParts$Complex", name := "isUsed", desc := "(I)Z" } : Jvm.MethodName)) ∈ lw_all := lw_g (lw_at lw_m2 162 rfl) rfl
theorem q474 : (Jvm.Cond.code ({ cls := "ChainParts$Complex", name := "isUsed", desc := "(I)Z" } : Jvm.MethodName) prog_3_method_7_code (7 : Nat) (Option.some Jvm.ClassFile.FieldType.boolean)) ∈ lw_all := lw_g (lw_at lw_m2 163 rfl) rfl
theorem q475 : (Jvm.Cond.methodLink "ChainParts$Complex" (55 : Nat) ({ cls := "ChainParts$FaceCell", name := "has", desc := "(I)Z" } : Jvm.MethodName)) ∈ lw_all := lw_g (lw_at lw_m2 164 rfl) rfl
theorem q482 : (Jvm.Cond.instanceMethod ({ cls := "ChainParts$Complex", name := "withoutEdge", desc := "(I)LChainParts$Complex;" } : Jvm.MethodName)) ∈ lw_all := lw_g (lw_at lw_m2 171 rfl) rfl
theorem q483 : (Jvm.Cond.selects "ChainParts$Complex" ({ cls := "ChainParts$Complex", name := "withoutEdge", desc := "(I)LChainParts$Complex;" } : Jvm.MethodName) ({ cls := "ChainParts$Complex", name := "withoutEdge", desc := "(I)LChainParts$Complex;" } : Jvm.MethodName)) ∈ lw_all := lw_g (lw_at lw_m2 172 rfl) rfl
theorem q484 : (Jvm.Cond.code ({ cls := "ChainParts$Complex", name := "withoutEdge", desc := "(I)LChainParts$Complex;" } : Jvm.MethodName) prog_3_method_6_code (7 : Nat) (Option.some (Jvm.ClassFile.FieldType.object "ChainParts$Complex"))) ∈ lw_all := lw_g (lw_at lw_m2 173 rfl) rfl
theorem q485 : (Jvm.Cond.methodLink "ChainParts$Complex" (51 : Nat) ({ cls := "ChainParts$FaceCell", name := "without", desc := "(I)LChainParts$FaceCell;" } : Jvm.MethodName)) ∈ lw_all := lw_g (lw_at lw_m2 174 rfl) rfl
theorem q499 : (Jvm.Cond.classLink "ChainParts$Complex" (47 : Nat) "[[I") ∈ lw_all := lw_g (lw_at lw_m2 188 rfl) rfl
theorem q501 : (Jvm.Cond.instanceMethod ({ cls := "ChainParts$Complex", name := "withoutFace", desc := "(I)LChainParts$Complex;" } : Jvm.MethodName)) ∈ lw_all := lw_g (lw_at lw_m2 190 rfl) rfl
theorem q502 : (Jvm.Cond.selects "ChainParts$Complex" ({ cls := "ChainParts$Complex", name := "withoutFace", desc := "(I)LChainParts$Complex;" } : Jvm.MethodName) ({ cls := "ChainParts$Complex", name := "withoutFace", desc := "(I)LChainParts$Complex;" } : Jvm.MethodName)) ∈ lw_all := lw_g (lw_at lw_m2 191 rfl) rfl
theorem q503 : (Jvm.Cond.code ({ cls := "ChainParts$Complex", name := "withoutFace", desc := "(I)LChainParts$Complex;" } : Jvm.MethodName) prog_3_method_5_code (4 : Nat) (Option.some (Jvm.ClassFile.FieldType.object "ChainParts$Complex"))) ∈ lw_all := lw_g (lw_at lw_m2 192 rfl) rfl
theorem q516 : (Jvm.Cond.instanceMethod ({ cls := "ChainParts$Complex", name := "withChain", desc := "(I[I)LChainParts$Complex;" } : Jvm.MethodName)) ∈ lw_all := lw_g (lw_at lw_m2 205 rfl) rfl
theorem q517 : (Jvm.Cond.selects "ChainParts$Complex" ({ cls := "ChainParts$Complex", name := "withChain", desc := "(I[I)LChainParts$Complex;" } : Jvm.MethodName) ({ cls := "ChainParts$Complex", name := "withChain", desc := "(I[I)LChainParts$Complex;" } : Jvm.MethodName)) ∈ lw_all := lw_g (lw_at lw_m2 206 rfl) rfl
theorem q518 : (Jvm.Cond.code ({ cls := "ChainParts$Complex", name := "withChain", desc := "(I[I)LChainParts$Complex;" } : Jvm.MethodName) prog_3_method_4_code (4 : Nat) (Option.some (Jvm.ClassFile.FieldType.object "ChainParts$Complex"))) ∈ lw_all := lw_g (lw_at lw_m2 207 rfl) rfl
theorem q519 : (Jvm.Cond.methodLink "ChainParts$Complex" (46 : Nat) ({ cls := "[[I", name := "clone", desc := "()Ljava/lang/Object;" } : Jvm.MethodName)) ∈ lw_all := lw_g (lw_at lw_m2 208 rfl) rfl
theorem q612 : (Jvm.Cond.instanceMethod ({ cls := "ChainParts$Complex", name := "table", desc := "(I)LChainParts$Table;" } : Jvm.MethodName)) ∈ lw_all := lw_g (lw_at lw_m3 61 rfl) rfl
theorem q613 : (Jvm.Cond.selects "ChainParts$Complex" ({ cls := "ChainParts$Complex", name := "table", desc := "(I)LChainParts$Table;" } : Jvm.MethodName) ({ cls := "ChainParts$Complex", name := "table", desc := "(I)LChainParts$Table;" } : Jvm.MethodName)) ∈ lw_all := lw_g (lw_at lw_m3 62 rfl) rfl
theorem q614 : (Jvm.Cond.code ({ cls := "ChainParts$Complex", name := "table", desc := "(I)LChainParts$Table;" } : Jvm.MethodName) prog_3_method_8_code (5 : Nat) (Option.some (Jvm.ClassFile.FieldType.object "ChainParts$Table"))) ∈ lw_all := lw_g (lw_at lw_m3 63 rfl) rfl
theorem q615 : (Jvm.Cond.classLink "ChainParts$Complex" (59 : Nat) "ChainParts$Table") ∈ lw_all := lw_g (lw_at lw_m3 64 rfl) rfl
theorem q617 : (Jvm.Cond.methodLink "ChainParts$Complex" (61 : Nat) ({ cls := "ChainParts$Table", name := "<init>", desc := "(II)V" } : Jvm.MethodName)) ∈ lw_all := lw_g (lw_at lw_m3 66 rfl) rfl
theorem q624 : (Jvm.Cond.fieldLinkNest "ChainParts$Complex" (67 : Nat) "ChainParts$Table" "at" "[[J" "ChainParts") ∈ lw_tbl := lw_at lw_m3 73 rfl
theorem q627 : (Jvm.Cond.fieldLinkNest "ChainParts$Complex" (77 : Nat) "ChainParts$Table" "rows" "I" "ChainParts") ∈ lw_tbl := lw_at lw_m3 76 rfl
theorem q629 : (Jvm.Cond.fieldLinkNest "ChainParts$Complex" (64 : Nat) "ChainParts$Table" "columns" "I" "ChainParts") ∈ lw_tbl := lw_at lw_m3 78 rfl
theorem q638 : (Jvm.Cond.methodLink "ChainParts$Complex" (80 : Nat) ({ cls := "ChainParts$FaceCell", name := "often", desc := "(I)I" } : Jvm.MethodName)) ∈ lw_all := lw_g (lw_at lw_m3 87 rfl) rfl
theorem q644 : (Jvm.Cond.instanceMethod ({ cls := "ChainParts$Complex", name := "near", desc := "(I)LChainParts$Table;" } : Jvm.MethodName)) ∈ lw_all := lw_g (lw_at lw_m3 93 rfl) rfl
theorem q645 : (Jvm.Cond.selects "ChainParts$Complex" ({ cls := "ChainParts$Complex", name := "near", desc := "(I)LChainParts$Table;" } : Jvm.MethodName) ({ cls := "ChainParts$Complex", name := "near", desc := "(I)LChainParts$Table;" } : Jvm.MethodName)) ∈ lw_all := lw_g (lw_at lw_m3 94 rfl) rfl
theorem q646 : (Jvm.Cond.code ({ cls := "ChainParts$Complex", name := "near", desc := "(I)LChainParts$Table;" } : Jvm.MethodName) prog_3_method_10_code (3 : Nat) (Option.some (Jvm.ClassFile.FieldType.object "ChainParts$Table"))) ∈ lw_all := lw_g (lw_at lw_m3 95 rfl) rfl
theorem q647 : (Jvm.Cond.methodLink "ChainParts$Complex" (88 : Nat) ({ cls := "ChainParts$Complex", name := "table", desc := "(I)LChainParts$Table;" } : Jvm.MethodName)) ∈ lw_all := lw_g (lw_at lw_m3 96 rfl) rfl
theorem q648 : (Jvm.Cond.methodLink "ChainParts$Complex" (92 : Nat) ({ cls := "ChainParts$Table", name := "turned", desc := "()LChainParts$Table;" } : Jvm.MethodName)) ∈ lw_all := lw_g (lw_at lw_m3 97 rfl) rfl
theorem q654 : (Jvm.Cond.methodLink "ChainParts$Complex" (96 : Nat) ({ cls := "ChainParts$Table", name := "times", desc := "(LChainParts$Table;)LChainParts$Table;" } : Jvm.MethodName)) ∈ lw_all := lw_g (lw_at lw_m3 103 rfl) rfl
theorem q658 : (Jvm.Cond.methodLink "ChainParts$Complex" (100 : Nat) ({ cls := "ChainParts$Complex", name := "weights", desc := "(I)[I" } : Jvm.MethodName)) ∈ lw_all := lw_g (lw_at lw_m3 107 rfl) rfl
theorem q659 : (Jvm.Cond.instanceMethod ({ cls := "ChainParts$Complex", name := "weights", desc := "(I)[I" } : Jvm.MethodName)) ∈ lw_all := lw_g (lw_at lw_m3 108 rfl) rfl
theorem q660 : (Jvm.Cond.selects "ChainParts$Complex" ({ cls := "ChainParts$Complex", name := "weights", desc := "(I)[I" } : Jvm.MethodName) ({ cls := "ChainParts$Complex", name := "weights", desc := "(I)[I" } : Jvm.MethodName)) ∈ lw_all := lw_g (lw_at lw_m3 109 rfl) rfl
theorem q661 : (Jvm.Cond.code ({ cls := "ChainParts$Complex", name := "weights", desc := "(I)[I" } : Jvm.MethodName) prog_3_method_9_code (4 : Nat) (Option.some (Jvm.ClassFile.FieldType.array Jvm.ClassFile.FieldType.int))) ∈ lw_all := lw_g (lw_at lw_m3 110 rfl) rfl
theorem q662 : (Jvm.Cond.methodLink "ChainParts$Complex" (104 : Nat) ({ cls := "ChainParts$Table", name := "weighed", desc := "([I)LChainParts$Table;" } : Jvm.MethodName)) ∈ lw_all := lw_g (lw_at lw_m3 111 rfl) rfl
theorem q683 : (Jvm.Cond.instanceMethod ({ cls := "ChainParts$Complex", name := "rank", desc := "(II)I" } : Jvm.MethodName)) ∈ lw_all := lw_g (lw_at lw_m3 132 rfl) rfl
theorem q684 : (Jvm.Cond.selects "ChainParts$Complex" ({ cls := "ChainParts$Complex", name := "rank", desc := "(II)I" } : Jvm.MethodName) ({ cls := "ChainParts$Complex", name := "rank", desc := "(II)I" } : Jvm.MethodName)) ∈ lw_all := lw_g (lw_at lw_m3 133 rfl) rfl
theorem q685 : (Jvm.Cond.code ({ cls := "ChainParts$Complex", name := "rank", desc := "(II)I" } : Jvm.MethodName) prog_3_method_23_code (3 : Nat) (Option.some Jvm.ClassFile.FieldType.int)) ∈ lw_all := lw_g (lw_at lw_m3 134 rfl) rfl
theorem q686 : (Jvm.Cond.methodLink "ChainParts$Complex" (111 : Nat) ({ cls := "ChainParts$Table", name := "rank", desc := "()I" } : Jvm.MethodName)) ∈ lw_all := lw_g (lw_at lw_m3 135 rfl) rfl
theorem q719 : (Jvm.Cond.methodLink "ChainParts$Complex" (201 : Nat) ({ cls := "ChainParts$Table", name := "rankBy", desc := "(I)I" } : Jvm.MethodName)) ∈ lw_all := lw_g (lw_at lw_m3 168 rfl) rfl
theorem q734 : (Jvm.Cond.instanceMethod ({ cls := "ChainParts$Complex", name := "holes", desc := "(II)I" } : Jvm.MethodName)) ∈ lw_all := lw_g (lw_at lw_m3 183 rfl) rfl
theorem q735 : (Jvm.Cond.selects "ChainParts$Complex" ({ cls := "ChainParts$Complex", name := "holes", desc := "(II)I" } : Jvm.MethodName) ({ cls := "ChainParts$Complex", name := "holes", desc := "(II)I" } : Jvm.MethodName)) ∈ lw_all := lw_g (lw_at lw_m3 184 rfl) rfl
theorem q736 : (Jvm.Cond.code ({ cls := "ChainParts$Complex", name := "holes", desc := "(II)I" } : Jvm.MethodName) prog_3_method_25_code (3 : Nat) (Option.some Jvm.ClassFile.FieldType.int)) ∈ lw_all := lw_g (lw_at lw_m3 185 rfl) rfl
theorem q737 : (Jvm.Cond.methodLink "ChainParts$Complex" (204 : Nat) ({ cls := "ChainParts$Complex", name := "many", desc := "(I)I" } : Jvm.MethodName)) ∈ lw_all := lw_g (lw_at lw_m3 186 rfl) rfl
theorem q738 : (Jvm.Cond.methodLink "ChainParts$Complex" (207 : Nat) ({ cls := "ChainParts$Complex", name := "rank", desc := "(II)I" } : Jvm.MethodName)) ∈ lw_all := lw_g (lw_at lw_m3 187 rfl) rfl
theorem q744 : (Jvm.Cond.instanceMethod ({ cls := "ChainParts$Complex", name := "twisted", desc := "(I)J" } : Jvm.MethodName)) ∈ lw_all := lw_g (lw_at lw_m3 193 rfl) rfl
theorem q745 : (Jvm.Cond.selects "ChainParts$Complex" ({ cls := "ChainParts$Complex", name := "twisted", desc := "(I)J" } : Jvm.MethodName) ({ cls := "ChainParts$Complex", name := "twisted", desc := "(I)J" } : Jvm.MethodName)) ∈ lw_all := lw_g (lw_at lw_m3 194 rfl) rfl
theorem q746 : (Jvm.Cond.code ({ cls := "ChainParts$Complex", name := "twisted", desc := "(I)J" } : Jvm.MethodName) prog_3_method_20_code (9 : Nat) (Option.some Jvm.ClassFile.FieldType.long)) ∈ lw_all := lw_g (lw_at lw_m3 195 rfl) rfl
theorem q747 : (Jvm.Cond.methodLink "ChainParts$Complex" (108 : Nat) ({ cls := "ChainParts$Table", name := "some", desc := "(I)LChainParts$Table;" } : Jvm.MethodName)) ∈ lw_all := lw_g (lw_at lw_m3 196 rfl) rfl
theorem q760 : (Jvm.Cond.methodLink "ChainParts$Complex" (184 : Nat) ({ cls := "ChainParts$Table", name := "twists", desc := "()[J" } : Jvm.MethodName)) ∈ lw_all := lw_g (lw_at lw_m3 209 rfl) rfl
theorem q779 : (Jvm.Cond.instanceMethod ({ cls := "ChainParts$Complex", name := "end", desc := "(II)I" } : Jvm.MethodName)) ∈ lw_all := lw_g (lw_at lw_m3 228 rfl) rfl
theorem q780 : (Jvm.Cond.selects "ChainParts$Complex" ({ cls := "ChainParts$Complex", name := "end", desc := "(II)I" } : Jvm.MethodName) ({ cls := "ChainParts$Complex", name := "end", desc := "(II)I" } : Jvm.MethodName)) ∈ lw_all := lw_g (lw_at lw_m3 229 rfl) rfl
theorem q781 : (Jvm.Cond.code ({ cls := "ChainParts$Complex", name := "end", desc := "(II)I" } : Jvm.MethodName) prog_3_method_17_code (5 : Nat) (Option.some Jvm.ClassFile.FieldType.int)) ∈ lw_all := lw_g (lw_at lw_m3 230 rfl) rfl
theorem q787 : (Jvm.Cond.instanceMethod ({ cls := "ChainParts$Complex", name := "isCycle", desc := "(I)Z" } : Jvm.MethodName)) ∈ lw_all := lw_g (lw_at lw_m3 236 rfl) rfl
theorem q788 : (Jvm.Cond.selects "ChainParts$Complex" ({ cls := "ChainParts$Complex", name := "isCycle", desc := "(I)Z" } : Jvm.MethodName) ({ cls := "ChainParts$Complex", name := "isCycle", desc := "(I)Z" } : Jvm.MethodName)) ∈ lw_all := lw_g (lw_at lw_m3 237 rfl) rfl
theorem q789 : (Jvm.Cond.code ({ cls := "ChainParts$Complex", name := "isCycle", desc := "(I)Z" } : Jvm.MethodName) prog_3_method_18_code (4 : Nat) (Option.some Jvm.ClassFile.FieldType.boolean)) ∈ lw_all := lw_g (lw_at lw_m3 238 rfl) rfl
theorem q790 : (Jvm.Cond.methodLink "ChainParts$Complex" (169 : Nat) ({ cls := "ChainParts$Complex", name := "end", desc := "(II)I" } : Jvm.MethodName)) ∈ lw_all := lw_g (lw_at lw_m3 239 rfl) rfl
theorem q792 : (Jvm.Cond.instanceMethod ({ cls := "ChainParts$Complex", name := "order", desc := "(I)I" } : Jvm.MethodName)) ∈ lw_all := lw_g (lw_at lw_m4 1 rfl) rfl
theorem q793 : (Jvm.Cond.selects "ChainParts$Complex" ({ cls := "ChainParts$Complex", name := "order", desc := "(I)I" } : Jvm.MethodName) ({ cls := "ChainParts$Complex", name := "order", desc := "(I)I" } : Jvm.MethodName)) ∈ lw_all := lw_g (lw_at lw_m4 2 rfl) rfl
theorem q794 : (Jvm.Cond.code ({ cls := "ChainParts$Complex", name := "order", desc := "(I)I" } : Jvm.MethodName) prog_3_method_19_code (11 : Nat) (Option.some Jvm.ClassFile.FieldType.int)) ∈ lw_all := lw_g (lw_at lw_m4 3 rfl) rfl
theorem q795 : (Jvm.Cond.methodLink "ChainParts$Complex" (120 : Nat) ({ cls := "ChainParts$Complex", name := "column", desc := "(I)[J" } : Jvm.MethodName)) ∈ lw_all := lw_g (lw_at lw_m4 4 rfl) rfl
theorem q796 : (Jvm.Cond.instanceMethod ({ cls := "ChainParts$Complex", name := "column", desc := "(I)[J" } : Jvm.MethodName)) ∈ lw_all := lw_g (lw_at lw_m4 5 rfl) rfl
theorem q797 : (Jvm.Cond.selects "ChainParts$Complex" ({ cls := "ChainParts$Complex", name := "column", desc := "(I)[J" } : Jvm.MethodName) ({ cls := "ChainParts$Complex", name := "column", desc := "(I)[J" } : Jvm.MethodName)) ∈ lw_all := lw_g (lw_at lw_m4 6 rfl) rfl
theorem q798 : (Jvm.Cond.code ({ cls := "ChainParts$Complex", name := "column", desc := "(I)[J" } : Jvm.MethodName) prog_3_method_11_code (4 : Nat) (Option.some (Jvm.ClassFile.FieldType.array Jvm.ClassFile.FieldType.long))) ∈ lw_all := lw_g (lw_at lw_m4 7 rfl) rfl
theorem q799 : (Jvm.Cond.methodLink "ChainParts$Complex" (124 : Nat) ({ cls := "ChainParts$Table", name := "and", desc := "([J)LChainParts$Table;" } : Jvm.MethodName)) ∈ lw_all := lw_g (lw_at lw_m4 8 rfl) rfl
theorem q800 : (Jvm.Cond.methodLink "ChainParts$Complex" (172 : Nat) ({ cls := "ChainParts$Table", name := "diagonal", desc := "()I" } : Jvm.MethodName)) ∈ lw_all := lw_g (lw_at lw_m4 9 rfl) rfl
theorem q801 : (Jvm.Cond.constant "ChainParts$Complex" (175 : Nat) (-1000000 : Int32)) ∈ lw_all := lw_g (lw_at lw_m4 10 rfl) rfl
theorem q802 : (Jvm.Cond.methodLink "ChainParts$Complex" (176 : Nat) ({ cls := "java/lang/Math", name := "abs", desc := "(J)J" } : Jvm.MethodName)) ∈ lw_all := lw_g (lw_at lw_m4 11 rfl) rfl
theorem q803 : (Jvm.Cond.methodLinkNest "ChainParts$Complex" (180 : Nat) ({ cls := "ChainParts", name := "common", desc := "(JJ)J" } : Jvm.MethodName) "ChainParts") ∈ lw_tbl := lw_at lw_m4 12 rfl
theorem q813 : (Jvm.Cond.instanceMethod ({ cls := "ChainParts$Complex", name := "part", desc := "(II)[LChainParts$Fraction;" } : Jvm.MethodName)) ∈ lw_all := lw_g (lw_at lw_m4 22 rfl) rfl
theorem q814 : (Jvm.Cond.selects "ChainParts$Complex" ({ cls := "ChainParts$Complex", name := "part", desc := "(II)[LChainParts$Fraction;" } : Jvm.MethodName) ({ cls := "ChainParts$Complex", name := "part", desc := "(II)[LChainParts$Fraction;" } : Jvm.MethodName)) ∈ lw_all := lw_g (lw_at lw_m4 23 rfl) rfl
theorem q815 : (Jvm.Cond.code ({ cls := "ChainParts$Complex", name := "part", desc := "(II)[LChainParts$Fraction;" } : Jvm.MethodName) prog_3_method_14_code (8 : Nat) (Option.some (Jvm.ClassFile.FieldType.array (Jvm.ClassFile.FieldType.object "ChainParts$Fraction")))) ∈ lw_all := lw_g (lw_at lw_m4 24 rfl) rfl
theorem q816 : (Jvm.Cond.methodLink "ChainParts$Complex" (144 : Nat) ({ cls := "ChainParts$Complex", name := "along", desc := "(LChainParts$Table;I)[LChainParts$Fraction;" } : Jvm.MethodName)) ∈ lw_all := lw_g (lw_at lw_m4 25 rfl) rfl
theorem q817 : (Jvm.Cond.privateMethod ({ cls := "ChainParts$Complex", name := "along", desc := "(LChainParts$Table;I)[LChainParts$Fraction;" } : Jvm.MethodName)) ∈ lw_tbl := lw_at lw_m4 26 rfl
theorem q818 : (Jvm.Cond.instanceMethod ({ cls := "ChainParts$Complex", name := "along", desc := "(LChainParts$Table;I)[LChainParts$Fraction;" } : Jvm.MethodName)) ∈ lw_all := lw_g (lw_at lw_m4 27 rfl) rfl
theorem q819 : (Jvm.Cond.code ({ cls := "ChainParts$Complex", name := "along", desc := "(LChainParts$Table;I)[LChainParts$Fraction;" } : Jvm.MethodName) prog_3_method_13_code (15 : Nat) (Option.some (Jvm.ClassFile.FieldType.array (Jvm.ClassFile.FieldType.object "ChainParts$Fraction")))) ∈ lw_all := lw_g (lw_at lw_m4 28 rfl) rfl
theorem q820 : (Jvm.Cond.methodLink "ChainParts$Complex" (115 : Nat) ({ cls := "java/lang/Integer", name := "bitCount", desc := "(I)I" } : Jvm.MethodName)) ∈ lw_all := lw_g (lw_at lw_m4 29 rfl) rfl
theorem q821 : (Jvm.Cond.methodLink "ChainParts$Complex" (128 : Nat) ({ cls := "ChainParts$Complex", name := "product", desc := "(LChainParts$Table;ILChainParts$Table;I)J" } : Jvm.MethodName)) ∈ lw_all := lw_g (lw_at lw_m4 30 rfl) rfl
theorem q822 : (Jvm.Cond.privateMethod ({ cls := "ChainParts$Complex", name := "product", desc := "(LChainParts$Table;ILChainParts$Table;I)J" } : Jvm.MethodName)) ∈ lw_tbl := lw_at lw_m4 31 rfl
theorem q823 : (Jvm.Cond.instanceMethod ({ cls := "ChainParts$Complex", name := "product", desc := "(LChainParts$Table;ILChainParts$Table;I)J" } : Jvm.MethodName)) ∈ lw_all := lw_g (lw_at lw_m4 32 rfl) rfl
theorem q824 : (Jvm.Cond.code ({ cls := "ChainParts$Complex", name := "product", desc := "(LChainParts$Table;ILChainParts$Table;I)J" } : Jvm.MethodName) prog_3_method_12_code (8 : Nat) (Option.some Jvm.ClassFile.FieldType.long)) ∈ lw_all := lw_g (lw_at lw_m4 33 rfl) rfl
theorem q825 : (Jvm.Cond.methodLink "ChainParts$Complex" (132 : Nat) ({ cls := "ChainParts$Table", name := "determinant", desc := "()J" } : Jvm.MethodName)) ∈ lw_all := lw_g (lw_at lw_m4 34 rfl) rfl
theorem q829 : (Jvm.Cond.methodLink "ChainParts$Complex" (136 : Nat) ({ cls := "ChainParts$Table", name := "like", desc := "()LChainParts$Table;" } : Jvm.MethodName)) ∈ lw_all := lw_g (lw_at lw_m4 38 rfl) rfl
theorem q830 : (Jvm.Cond.classLink "ChainParts$Complex" (139 : Nat) "ChainParts$Fraction") ∈ lw_all := lw_g (lw_at lw_m4 39 rfl) rfl
theorem q833 : (Jvm.Cond.methodLink "ChainParts$Complex" (141 : Nat) ({ cls := "ChainParts$Fraction", name := "<init>", desc := "(JJ)V" } : Jvm.MethodName)) ∈ lw_all := lw_g (lw_at lw_m4 42 rfl) rfl
theorem q840 : (Jvm.Cond.fieldLink "ChainParts$Complex" (159 : Nat) "ChainParts$Fraction" "above" "J") ∈ lw_all := lw_g (lw_at lw_m4 49 rfl) rfl
theorem q842 : (Jvm.Cond.fieldLink "ChainParts$Complex" (163 : Nat) "ChainParts$Fraction" "below" "J") ∈ lw_all := lw_g (lw_at lw_m4 51 rfl) rfl
theorem q848 : (Jvm.Cond.methodLink "ChainParts$Complex" (148 : Nat) ({ cls := "ChainParts$Complex", name := "driven", desc := "()LChainParts$Table;" } : Jvm.MethodName)) ∈ lw_all := lw_g (lw_at lw_m4 57 rfl) rfl
theorem q849 : (Jvm.Cond.privateMethod ({ cls := "ChainParts$Complex", name := "driven", desc := "()LChainParts$Table;" } : Jvm.MethodName)) ∈ lw_tbl := lw_at lw_m4 58 rfl
theorem q850 : (Jvm.Cond.instanceMethod ({ cls := "ChainParts$Complex", name := "driven", desc := "()LChainParts$Table;" } : Jvm.MethodName)) ∈ lw_all := lw_g (lw_at lw_m4 59 rfl) rfl
theorem q851 : (Jvm.Cond.code ({ cls := "ChainParts$Complex", name := "driven", desc := "()LChainParts$Table;" } : Jvm.MethodName) prog_3_method_15_code (1 : Nat) (Option.some (Jvm.ClassFile.FieldType.object "ChainParts$Table"))) ∈ lw_all := lw_g (lw_at lw_m4 60 rfl) rfl
theorem q852 : (Jvm.Cond.methodLink "ChainParts$Complex" (151 : Nat) ({ cls := "ChainParts$Complex", name := "part", desc := "(II)[LChainParts$Fraction;" } : Jvm.MethodName)) ∈ lw_all := lw_g (lw_at lw_m4 61 rfl) rfl
theorem q853 : (Jvm.Cond.methodLink "ChainParts$Complex" (155 : Nat) ({ cls := "ChainParts$Fraction", name := "minus", desc := "(LChainParts$Fraction;)LChainParts$Fraction;" } : Jvm.MethodName)) ∈ lw_all := lw_g (lw_at lw_m4 62 rfl) rfl
theorem q873 : (Jvm.Cond.instanceMethod ({ cls := "ChainParts$Complex", name := "length", desc := "(II)LChainParts$Fraction;" } : Jvm.MethodName)) ∈ lw_all := lw_g (lw_at lw_m4 82 rfl) rfl
theorem q874 : (Jvm.Cond.selects "ChainParts$Complex" ({ cls := "ChainParts$Complex", name := "length", desc := "(II)LChainParts$Fraction;" } : Jvm.MethodName) ({ cls := "ChainParts$Complex", name := "length", desc := "(II)LChainParts$Fraction;" } : Jvm.MethodName)) ∈ lw_all := lw_g (lw_at lw_m4 83 rfl) rfl
theorem q875 : (Jvm.Cond.code ({ cls := "ChainParts$Complex", name := "length", desc := "(II)LChainParts$Fraction;" } : Jvm.MethodName) prog_3_method_16_code (6 : Nat) (Option.some (Jvm.ClassFile.FieldType.object "ChainParts$Fraction"))) ∈ lw_all := lw_g (lw_at lw_m4 84 rfl) rfl
theorem q876 : (Jvm.Cond.methodLink "ChainParts$Complex" (166 : Nat) ({ cls := "ChainParts$Fraction", name := "plus", desc := "(LChainParts$Fraction;)LChainParts$Fraction;" } : Jvm.MethodName)) ∈ lw_all := lw_g (lw_at lw_m4 85 rfl) rfl
theorem q895 : (Jvm.Cond.instanceMethod ({ cls := "ChainParts$Complex", name := "trees", desc := "(II)J" } : Jvm.MethodName)) ∈ lw_all := lw_g (lw_at lw_m4 104 rfl) rfl
theorem q896 : (Jvm.Cond.selects "ChainParts$Complex" ({ cls := "ChainParts$Complex", name := "trees", desc := "(II)J" } : Jvm.MethodName) ({ cls := "ChainParts$Complex", name := "trees", desc := "(II)J" } : Jvm.MethodName)) ∈ lw_all := lw_g (lw_at lw_m4 105 rfl) rfl
theorem q897 : (Jvm.Cond.code ({ cls := "ChainParts$Complex", name := "trees", desc := "(II)J" } : Jvm.MethodName) prog_3_method_21_code (13 : Nat) (Option.some Jvm.ClassFile.FieldType.long)) ∈ lw_all := lw_g (lw_at lw_m4 106 rfl) rfl
theorem q898 : (Jvm.Cond.methodLinkNest "ChainParts$Complex" (188 : Nat) ({ cls := "ChainParts", name := "has", desc := "(II)Z" } : Jvm.MethodName) "ChainParts") ∈ lw_tbl := lw_at lw_m4 107 rfl
theorem q899 : (Jvm.Cond.methodLink "ChainParts$Complex" (191 : Nat) ({ cls := "ChainParts$Complex", name := "twisted", desc := "(I)J" } : Jvm.MethodName)) ∈ lw_all := lw_g (lw_at lw_m4 108 rfl) rfl
theorem q905 : (Jvm.Cond.instanceMethod ({ cls := "ChainParts$Complex", name := "minors", desc := "(I)J" } : Jvm.MethodName)) ∈ lw_all := lw_g (lw_at lw_m4 114 rfl) rfl
theorem q906 : (Jvm.Cond.selects "ChainParts$Complex" ({ cls := "ChainParts$Complex", name := "minors", desc := "(I)J" } : Jvm.MethodName) ({ cls := "ChainParts$Complex", name := "minors", desc := "(I)J" } : Jvm.MethodName)) ∈ lw_all := lw_g (lw_at lw_m4 115 rfl) rfl
theorem q907 : (Jvm.Cond.code ({ cls := "ChainParts$Complex", name := "minors", desc := "(I)J" } : Jvm.MethodName) prog_3_method_22_code (7 : Nat) (Option.some Jvm.ClassFile.FieldType.long)) ∈ lw_all := lw_g (lw_at lw_m4 116 rfl) rfl
theorem q908 : (Jvm.Cond.methodLink "ChainParts$Complex" (195 : Nat) ({ cls := "ChainParts$Complex", name := "near", desc := "(I)LChainParts$Table;" } : Jvm.MethodName)) ∈ lw_all := lw_g (lw_at lw_m4 117 rfl) rfl
theorem q909 : (Jvm.Cond.methodLink "ChainParts$Complex" (198 : Nat) ({ cls := "ChainParts$Table", name := "within", desc := "(I)LChainParts$Table;" } : Jvm.MethodName)) ∈ lw_all := lw_g (lw_at lw_m4 118 rfl) rfl
theorem in_X9 : ∀ w ∈ wsX90, w ∈ lw_all := lw_in wsX90 [371, 373, 375, 377] (by decide +kernel) (by decide +kernel)
