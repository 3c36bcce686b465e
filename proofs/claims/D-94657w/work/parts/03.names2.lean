/-! StepDebts$World -/
set_option maxRecDepth 100000
def RX2 : String := "StepDebts$World"
def TX2 : u_T := fun k => match k with
  | 0 => ("StepDebts$World", "texts", "I", false)
  | 1 => ("StepDebts$World", "houses", "I", false)
  | 2 => ("StepDebts$World", "limit", "I", false)
  | 3 => ("StepDebts$World", "rest", "I", false)
  | 4 => ("StepDebts$World", "day", "I", false)
  | 5 => ("StepDebts$World", "seed", "I", false)
  | 6 => ("StepDebts$World", "serial", "I", false)
  | 7 => ("StepDebts$World", "debt", "[I", true)
  | 8 => ("StepDebts$World", "walkers", "Ljava/util/ArrayList;", true)
  | 9 => ("StepDebts$World", "turns", "Ljava/util/ArrayList;", true)
  | 10 => ("StepDebts$World", "offers", "Ljava/util/ArrayList;", true)
  | 11 => ("StepDebts$World", "entries", "Ljava/util/ArrayList;", true)
  | _ => ("StepDebts$World", "law", "LStepDebts$Law;", false)
def tyX2 : Nat → FieldType := fun k => match k with
  | 0 => .int
  | 1 => .int
  | 2 => .int
  | 3 => .int
  | 4 => .int
  | 5 => .int
  | 6 => .int
  | 7 => .array .int
  | 8 => .object "java/util/ArrayList"
  | 9 => .object "java/util/ArrayList"
  | 10 => .object "java/util/ArrayList"
  | 11 => .object "java/util/ArrayList"
  | _ => .object "StepDebts$Law"
abbrev wsX20 : List Cond := u_ws RX2 TX2 13
set_option maxRecDepth 100000 in
theorem nmX2 : ∀ a, a < 13 → ∀ b, b < 13 → a ≠ b → (TX2 a).2.1 ≠ (TX2 b).2.1 := by decide +kernel
set_option maxRecDepth 100000 in
theorem tyX2_ok : ∀ k, k < 13 → parseFieldDescriptor (TX2 k).2.2.1 = some (tyX2 k) := by decide +kernel
abbrev cX2_init : ByteArray := prog_20_method_1_code
def yX2_init : MethodName := ⟨RX2, "<init>", "()V"⟩
def dkwX2_init_2 : List UInt8 := [187, 0, 22, 89, 183, 0, 24, 181, 0, 32, 42, 187, 0, 22, 89, 183, 0, 24, 181, 0, 35, 177]
abbrev dktX2_init_2 : List UInt8 := dkwX2_init_2 ++ []
def dkwX2_init_1 : List UInt8 := [187, 0, 22, 89, 183, 0, 24, 181, 0, 25, 42, 187, 0, 22, 89, 183, 0, 24, 181, 0, 29, 42]
abbrev dktX2_init_1 : List UInt8 := dkwX2_init_1 ++ dktX2_init_2
def dkwX2_init_0 : List UInt8 := [42, 183, 0, 3, 42, 16, 100, 181, 0, 9, 42, 4, 181, 0, 15, 42, 16, 8, 188, 10, 181, 0, 18, 42]
abbrev dktX2_init_0 : List UInt8 := dkwX2_init_0 ++ dktX2_init_1
theorem dksX2_init_0 : cX2_init.data.toList.drop 0 = dktX2_init_0 := by decide +kernel
theorem dksX2_init_1 : cX2_init.data.toList.drop 24 = dktX2_init_1 := dk_seg dksX2_init_0 24 rfl rfl
theorem dksX2_init_2 : cX2_init.data.toList.drop 46 = dktX2_init_2 := dk_seg dksX2_init_1 22 rfl rfl
theorem dX2_init_0 : decode cX2_init 0 = .ok (.aload_n 0, 1) := dk_42 (dk_at dksX2_init_0 0 rfl rfl)
theorem dX2_init_1 : decode cX2_init 1 = .ok (.invokespecial 3, 3) := dk_183 0 3 (dk_at dksX2_init_0 1 rfl rfl)
theorem dX2_init_4 : decode cX2_init 4 = .ok (.aload_n 0, 1) := dk_42 (dk_at dksX2_init_0 4 rfl rfl)
theorem dX2_init_5 : decode cX2_init 5 = .ok (.bipush 100, 2) := dk_16 100 (dk_at dksX2_init_0 5 rfl rfl)
theorem dX2_init_7 : decode cX2_init 7 = .ok (.putfield 9, 3) := dk_181 0 9 (dk_at dksX2_init_0 7 rfl rfl)
theorem dX2_init_10 : decode cX2_init 10 = .ok (.aload_n 0, 1) := dk_42 (dk_at dksX2_init_0 10 rfl rfl)
theorem dX2_init_11 : decode cX2_init 11 = .ok (.iconst 1, 1) := dk_4 (dk_at dksX2_init_0 11 rfl rfl)
theorem dX2_init_12 : decode cX2_init 12 = .ok (.putfield 15, 3) := dk_181 0 15 (dk_at dksX2_init_0 12 rfl rfl)
theorem dX2_init_15 : decode cX2_init 15 = .ok (.aload_n 0, 1) := dk_42 (dk_at dksX2_init_0 15 rfl rfl)
theorem dX2_init_16 : decode cX2_init 16 = .ok (.bipush 8, 2) := dk_16 8 (dk_at dksX2_init_0 16 rfl rfl)
theorem dX2_init_18 : decode cX2_init 18 = .ok (.newarray .int, 2) := dk_188_10 (dk_at dksX2_init_0 18 rfl rfl)
theorem dX2_init_20 : decode cX2_init 20 = .ok (.putfield 18, 3) := dk_181 0 18 (dk_at dksX2_init_0 20 rfl rfl)
theorem dX2_init_23 : decode cX2_init 23 = .ok (.aload_n 0, 1) := dk_42 (dk_at dksX2_init_0 23 rfl rfl)
theorem dX2_init_24 : decode cX2_init 24 = .ok (.new 22, 3) := dk_187 0 22 (dk_at dksX2_init_1 0 rfl rfl)
theorem dX2_init_27 : decode cX2_init 27 = .ok (.dup, 1) := dk_89 (dk_at dksX2_init_1 3 rfl rfl)
theorem dX2_init_28 : decode cX2_init 28 = .ok (.invokespecial 24, 3) := dk_183 0 24 (dk_at dksX2_init_1 4 rfl rfl)
theorem dX2_init_31 : decode cX2_init 31 = .ok (.putfield 25, 3) := dk_181 0 25 (dk_at dksX2_init_1 7 rfl rfl)
theorem dX2_init_34 : decode cX2_init 34 = .ok (.aload_n 0, 1) := dk_42 (dk_at dksX2_init_1 10 rfl rfl)
theorem dX2_init_35 : decode cX2_init 35 = .ok (.new 22, 3) := dk_187 0 22 (dk_at dksX2_init_1 11 rfl rfl)
theorem dX2_init_38 : decode cX2_init 38 = .ok (.dup, 1) := dk_89 (dk_at dksX2_init_1 14 rfl rfl)
theorem dX2_init_39 : decode cX2_init 39 = .ok (.invokespecial 24, 3) := dk_183 0 24 (dk_at dksX2_init_1 15 rfl rfl)
theorem dX2_init_42 : decode cX2_init 42 = .ok (.putfield 29, 3) := dk_181 0 29 (dk_at dksX2_init_1 18 rfl rfl)
theorem dX2_init_45 : decode cX2_init 45 = .ok (.aload_n 0, 1) := dk_42 (dk_at dksX2_init_1 21 rfl rfl)
theorem dX2_init_46 : decode cX2_init 46 = .ok (.new 22, 3) := dk_187 0 22 (dk_at dksX2_init_2 0 rfl rfl)
theorem dX2_init_49 : decode cX2_init 49 = .ok (.dup, 1) := dk_89 (dk_at dksX2_init_2 3 rfl rfl)
theorem dX2_init_50 : decode cX2_init 50 = .ok (.invokespecial 24, 3) := dk_183 0 24 (dk_at dksX2_init_2 4 rfl rfl)
theorem dX2_init_53 : decode cX2_init 53 = .ok (.putfield 32, 3) := dk_181 0 32 (dk_at dksX2_init_2 7 rfl rfl)
theorem dX2_init_56 : decode cX2_init 56 = .ok (.aload_n 0, 1) := dk_42 (dk_at dksX2_init_2 10 rfl rfl)
theorem dX2_init_57 : decode cX2_init 57 = .ok (.new 22, 3) := dk_187 0 22 (dk_at dksX2_init_2 11 rfl rfl)
theorem dX2_init_60 : decode cX2_init 60 = .ok (.dup, 1) := dk_89 (dk_at dksX2_init_2 14 rfl rfl)
theorem dX2_init_61 : decode cX2_init 61 = .ok (.invokespecial 24, 3) := dk_183 0 24 (dk_at dksX2_init_2 15 rfl rfl)
theorem dX2_init_64 : decode cX2_init 64 = .ok (.putfield 35, 3) := dk_181 0 35 (dk_at dksX2_init_2 18 rfl rfl)
theorem dX2_init_67 : decode cX2_init 67 = .ok (.return_, 1) := dk_177 (dk_at dksX2_init_2 21 rfl rfl)
abbrev cX2_missed : ByteArray := prog_20_method_8_code
def yX2_missed : MethodName := ⟨RX2, "missed", "(I)I"⟩
def dkwX2_missed_3 : List UInt8 := [167, 0, 4, 3, 96, 62, 132, 4, 1, 167, 255, 198, 29, 172]
abbrev dktX2_missed_3 : List UInt8 := dkwX2_missed_3 ++ []
def dkwX2_missed_2 : List UInt8 := [25, 5, 180, 0, 125, 27, 164, 0, 19, 25, 5, 180, 0, 127, 44, 180, 0, 128, 164, 0, 7, 4]
abbrev dktX2_missed_2 : List UInt8 := dkwX2_missed_2 ++ dktX2_missed_3
def dkwX2_missed_1 : List UInt8 := [180, 0, 35, 182, 0, 64, 162, 0, 52, 42, 180, 0, 35, 21, 4, 182, 0, 68, 192, 0, 87, 58, 5, 29]
abbrev dktX2_missed_1 : List UInt8 := dkwX2_missed_1 ++ dktX2_missed_2
def dkwX2_missed_0 : List UInt8 := [42, 180, 0, 29, 27, 182, 0, 68, 192, 0, 82, 77, 44, 180, 0, 106, 116, 62, 3, 54, 4, 21, 4, 42]
abbrev dktX2_missed_0 : List UInt8 := dkwX2_missed_0 ++ dktX2_missed_1
theorem dksX2_missed_0 : cX2_missed.data.toList.drop 0 = dktX2_missed_0 := by decide +kernel
theorem dksX2_missed_1 : cX2_missed.data.toList.drop 24 = dktX2_missed_1 := dk_seg dksX2_missed_0 24 rfl rfl
theorem dksX2_missed_2 : cX2_missed.data.toList.drop 48 = dktX2_missed_2 := dk_seg dksX2_missed_1 24 rfl rfl
theorem dksX2_missed_3 : cX2_missed.data.toList.drop 70 = dktX2_missed_3 := dk_seg dksX2_missed_2 22 rfl rfl
theorem dX2_missed_0 : decode cX2_missed 0 = .ok (.aload_n 0, 1) := dk_42 (dk_at dksX2_missed_0 0 rfl rfl)
theorem dX2_missed_1 : decode cX2_missed 1 = .ok (.getfield 29, 3) := dk_180 0 29 (dk_at dksX2_missed_0 1 rfl rfl)
theorem dX2_missed_4 : decode cX2_missed 4 = .ok (.iload_n 1, 1) := dk_27 (dk_at dksX2_missed_0 4 rfl rfl)
theorem dX2_missed_5 : decode cX2_missed 5 = .ok (.invokevirtual 68, 3) := dk_182 0 68 (dk_at dksX2_missed_0 5 rfl rfl)
theorem dX2_missed_8 : decode cX2_missed 8 = .ok (.checkcast 82, 3) := dk_192 0 82 (dk_at dksX2_missed_0 8 rfl rfl)
theorem dX2_missed_11 : decode cX2_missed 11 = .ok (.astore_n 2, 1) := dk_77 (dk_at dksX2_missed_0 11 rfl rfl)
theorem dX2_missed_12 : decode cX2_missed 12 = .ok (.aload_n 2, 1) := dk_44 (dk_at dksX2_missed_0 12 rfl rfl)
theorem dX2_missed_13 : decode cX2_missed 13 = .ok (.getfield 106, 3) := dk_180 0 106 (dk_at dksX2_missed_0 13 rfl rfl)
theorem dX2_missed_16 : decode cX2_missed 16 = .ok (.ineg, 1) := dk_116 (dk_at dksX2_missed_0 16 rfl rfl)
theorem dX2_missed_17 : decode cX2_missed 17 = .ok (.istore_n 3, 1) := dk_62 (dk_at dksX2_missed_0 17 rfl rfl)
theorem dX2_missed_18 : decode cX2_missed 18 = .ok (.iconst 0, 1) := dk_3 (dk_at dksX2_missed_0 18 rfl rfl)
theorem dX2_missed_19 : decode cX2_missed 19 = .ok (.istore 4, 2) := dk_54 4 (dk_at dksX2_missed_0 19 rfl rfl)
theorem dX2_missed_21 : decode cX2_missed 21 = .ok (.iload 4, 2) := dk_21 4 (dk_at dksX2_missed_0 21 rfl rfl)
theorem dX2_missed_23 : decode cX2_missed 23 = .ok (.aload_n 0, 1) := dk_42 (dk_at dksX2_missed_0 23 rfl rfl)
theorem dX2_missed_24 : decode cX2_missed 24 = .ok (.getfield 35, 3) := dk_180 0 35 (dk_at dksX2_missed_1 0 rfl rfl)
theorem dX2_missed_27 : decode cX2_missed 27 = .ok (.invokevirtual 64, 3) := dk_182 0 64 (dk_at dksX2_missed_1 3 rfl rfl)
theorem dX2_missed_30 : decode cX2_missed 30 = .ok (.if_icmp .ge 52, 3) := dk_162 0 52 (dk_at dksX2_missed_1 6 rfl rfl)
theorem dX2_missed_33 : decode cX2_missed 33 = .ok (.aload_n 0, 1) := dk_42 (dk_at dksX2_missed_1 9 rfl rfl)
theorem dX2_missed_34 : decode cX2_missed 34 = .ok (.getfield 35, 3) := dk_180 0 35 (dk_at dksX2_missed_1 10 rfl rfl)
theorem dX2_missed_37 : decode cX2_missed 37 = .ok (.iload 4, 2) := dk_21 4 (dk_at dksX2_missed_1 13 rfl rfl)
theorem dX2_missed_39 : decode cX2_missed 39 = .ok (.invokevirtual 68, 3) := dk_182 0 68 (dk_at dksX2_missed_1 15 rfl rfl)
theorem dX2_missed_42 : decode cX2_missed 42 = .ok (.checkcast 87, 3) := dk_192 0 87 (dk_at dksX2_missed_1 18 rfl rfl)
theorem dX2_missed_45 : decode cX2_missed 45 = .ok (.astore 5, 2) := dk_58 5 (dk_at dksX2_missed_1 21 rfl rfl)
theorem dX2_missed_47 : decode cX2_missed 47 = .ok (.iload_n 3, 1) := dk_29 (dk_at dksX2_missed_1 23 rfl rfl)
theorem dX2_missed_48 : decode cX2_missed 48 = .ok (.aload 5, 2) := dk_25 5 (dk_at dksX2_missed_2 0 rfl rfl)
theorem dX2_missed_50 : decode cX2_missed 50 = .ok (.getfield 125, 3) := dk_180 0 125 (dk_at dksX2_missed_2 2 rfl rfl)
theorem dX2_missed_53 : decode cX2_missed 53 = .ok (.iload_n 1, 1) := dk_27 (dk_at dksX2_missed_2 5 rfl rfl)
theorem dX2_missed_54 : decode cX2_missed 54 = .ok (.if_icmp .le 19, 3) := dk_164 0 19 (dk_at dksX2_missed_2 6 rfl rfl)
theorem dX2_missed_57 : decode cX2_missed 57 = .ok (.aload 5, 2) := dk_25 5 (dk_at dksX2_missed_2 9 rfl rfl)
theorem dX2_missed_59 : decode cX2_missed 59 = .ok (.getfield 127, 3) := dk_180 0 127 (dk_at dksX2_missed_2 11 rfl rfl)
theorem dX2_missed_62 : decode cX2_missed 62 = .ok (.aload_n 2, 1) := dk_44 (dk_at dksX2_missed_2 14 rfl rfl)
theorem dX2_missed_63 : decode cX2_missed 63 = .ok (.getfield 128, 3) := dk_180 0 128 (dk_at dksX2_missed_2 15 rfl rfl)
theorem dX2_missed_66 : decode cX2_missed 66 = .ok (.if_icmp .le 7, 3) := dk_164 0 7 (dk_at dksX2_missed_2 18 rfl rfl)
theorem dX2_missed_69 : decode cX2_missed 69 = .ok (.iconst 1, 1) := dk_4 (dk_at dksX2_missed_2 21 rfl rfl)
theorem dX2_missed_70 : decode cX2_missed 70 = .ok (.goto 4, 3) := dk_167 0 4 (dk_at dksX2_missed_3 0 rfl rfl)
theorem dX2_missed_73 : decode cX2_missed 73 = .ok (.iconst 0, 1) := dk_3 (dk_at dksX2_missed_3 3 rfl rfl)
theorem dX2_missed_74 : decode cX2_missed 74 = .ok (.iadd, 1) := dk_96 (dk_at dksX2_missed_3 4 rfl rfl)
theorem dX2_missed_75 : decode cX2_missed 75 = .ok (.istore_n 3, 1) := dk_62 (dk_at dksX2_missed_3 5 rfl rfl)
theorem dX2_missed_76 : decode cX2_missed 76 = .ok (.iinc 4 1, 3) := dk_132 4 1 (dk_at dksX2_missed_3 6 rfl rfl)
theorem dX2_missed_79 : decode cX2_missed 79 = .ok (.goto (-58), 3) := dk_167 255 198 (dk_at dksX2_missed_3 9 rfl rfl)
theorem dX2_missed_82 : decode cX2_missed 82 = .ok (.iload_n 3, 1) := dk_29 (dk_at dksX2_missed_3 12 rfl rfl)
theorem dX2_missed_83 : decode cX2_missed 83 = .ok (.ireturn, 1) := dk_172 (dk_at dksX2_missed_3 13 rfl rfl)
abbrev cX2_copy : ByteArray := prog_20_method_2_code
def yX2_copy : MethodName := ⟨RX2, "copy", "()LStepDebts$World;"⟩
def dkwX2_copy_9 : List UInt8 := [42, 180, 0, 32, 182, 0, 92, 87, 43, 176]
abbrev dktX2_copy_9 : List UInt8 := dkwX2_copy_9 ++ []
def dkwX2_copy_8 : List UInt8 := [28, 182, 0, 68, 192, 0, 87, 182, 0, 89, 182, 0, 78, 87, 132, 2, 1, 167, 255, 220, 43, 180, 0, 32]
abbrev dktX2_copy_8 : List UInt8 := dkwX2_copy_8 ++ dktX2_copy_9
def dkwX2_copy_7 : List UInt8 := [167, 255, 220, 3, 61, 28, 42, 180, 0, 35, 182, 0, 64, 162, 0, 31, 43, 180, 0, 35, 42, 180, 0, 35]
abbrev dktX2_copy_7 : List UInt8 := dkwX2_copy_7 ++ dktX2_copy_8
def dkwX2_copy_6 : List UInt8 := [180, 0, 29, 42, 180, 0, 29, 28, 182, 0, 68, 192, 0, 82, 182, 0, 84, 182, 0, 78, 87, 132, 2, 1]
abbrev dktX2_copy_6 : List UInt8 := dkwX2_copy_6 ++ dktX2_copy_7
def dkwX2_copy_5 : List UInt8 := [182, 0, 78, 87, 132, 2, 1, 167, 255, 220, 3, 61, 28, 42, 180, 0, 29, 182, 0, 64, 162, 0, 31, 43]
abbrev dktX2_copy_5 : List UInt8 := dkwX2_copy_5 ++ dktX2_copy_6
def dkwX2_copy_4 : List UInt8 := [182, 0, 64, 162, 0, 31, 43, 180, 0, 25, 42, 180, 0, 25, 28, 182, 0, 68, 192, 0, 72, 182, 0, 74]
abbrev dktX2_copy_4 : List UInt8 := dkwX2_copy_4 ++ dktX2_copy_5
def dkwX2_copy_3 : List UInt8 := [42, 180, 0, 18, 3, 43, 180, 0, 18, 3, 16, 8, 184, 0, 58, 3, 61, 28, 42, 180, 0, 25]
abbrev dktX2_copy_3 : List UInt8 := dkwX2_copy_3 ++ dktX2_copy_4
def dkwX2_copy_2 : List UInt8 := [43, 42, 180, 0, 15, 181, 0, 15, 43, 42, 180, 0, 51, 181, 0, 51, 43, 42, 180, 0, 54, 181, 0, 54]
abbrev dktX2_copy_2 : List UInt8 := dkwX2_copy_2 ++ dktX2_copy_3
def dkwX2_copy_1 : List UInt8 := [43, 42, 180, 0, 9, 181, 0, 9, 43, 42, 180, 0, 45, 181, 0, 45, 43, 42, 180, 0, 48, 181, 0, 48]
abbrev dktX2_copy_1 : List UInt8 := dkwX2_copy_1 ++ dktX2_copy_2
def dkwX2_copy_0 : List UInt8 := [187, 0, 10, 89, 183, 0, 38, 76, 43, 42, 180, 0, 39, 181, 0, 39, 43, 42, 180, 0, 42, 181, 0, 42]
abbrev dktX2_copy_0 : List UInt8 := dkwX2_copy_0 ++ dktX2_copy_1
theorem dksX2_copy_0 : cX2_copy.data.toList.drop 0 = dktX2_copy_0 := by decide +kernel
theorem dksX2_copy_1 : cX2_copy.data.toList.drop 24 = dktX2_copy_1 := dk_seg dksX2_copy_0 24 rfl rfl
theorem dksX2_copy_2 : cX2_copy.data.toList.drop 48 = dktX2_copy_2 := dk_seg dksX2_copy_1 24 rfl rfl
theorem dksX2_copy_3 : cX2_copy.data.toList.drop 72 = dktX2_copy_3 := dk_seg dksX2_copy_2 24 rfl rfl
theorem dksX2_copy_4 : cX2_copy.data.toList.drop 94 = dktX2_copy_4 := dk_seg dksX2_copy_3 22 rfl rfl
theorem dksX2_copy_5 : cX2_copy.data.toList.drop 118 = dktX2_copy_5 := dk_seg dksX2_copy_4 24 rfl rfl
theorem dksX2_copy_6 : cX2_copy.data.toList.drop 142 = dktX2_copy_6 := dk_seg dksX2_copy_5 24 rfl rfl
theorem dksX2_copy_7 : cX2_copy.data.toList.drop 166 = dktX2_copy_7 := dk_seg dksX2_copy_6 24 rfl rfl
theorem dksX2_copy_8 : cX2_copy.data.toList.drop 190 = dktX2_copy_8 := dk_seg dksX2_copy_7 24 rfl rfl
theorem dksX2_copy_9 : cX2_copy.data.toList.drop 214 = dktX2_copy_9 := dk_seg dksX2_copy_8 24 rfl rfl
theorem dX2_copy_0 : decode cX2_copy 0 = .ok (.new 10, 3) := dk_187 0 10 (dk_at dksX2_copy_0 0 rfl rfl)
theorem dX2_copy_3 : decode cX2_copy 3 = .ok (.dup, 1) := dk_89 (dk_at dksX2_copy_0 3 rfl rfl)
theorem dX2_copy_4 : decode cX2_copy 4 = .ok (.invokespecial 38, 3) := dk_183 0 38 (dk_at dksX2_copy_0 4 rfl rfl)
theorem dX2_copy_7 : decode cX2_copy 7 = .ok (.astore_n 1, 1) := dk_76 (dk_at dksX2_copy_0 7 rfl rfl)
theorem dX2_copy_8 : decode cX2_copy 8 = .ok (.aload_n 1, 1) := dk_43 (dk_at dksX2_copy_0 8 rfl rfl)
theorem dX2_copy_9 : decode cX2_copy 9 = .ok (.aload_n 0, 1) := dk_42 (dk_at dksX2_copy_0 9 rfl rfl)
theorem dX2_copy_10 : decode cX2_copy 10 = .ok (.getfield 39, 3) := dk_180 0 39 (dk_at dksX2_copy_0 10 rfl rfl)
theorem dX2_copy_13 : decode cX2_copy 13 = .ok (.putfield 39, 3) := dk_181 0 39 (dk_at dksX2_copy_0 13 rfl rfl)
theorem dX2_copy_16 : decode cX2_copy 16 = .ok (.aload_n 1, 1) := dk_43 (dk_at dksX2_copy_0 16 rfl rfl)
theorem dX2_copy_17 : decode cX2_copy 17 = .ok (.aload_n 0, 1) := dk_42 (dk_at dksX2_copy_0 17 rfl rfl)
theorem dX2_copy_18 : decode cX2_copy 18 = .ok (.getfield 42, 3) := dk_180 0 42 (dk_at dksX2_copy_0 18 rfl rfl)
theorem dX2_copy_21 : decode cX2_copy 21 = .ok (.putfield 42, 3) := dk_181 0 42 (dk_at dksX2_copy_0 21 rfl rfl)
theorem dX2_copy_24 : decode cX2_copy 24 = .ok (.aload_n 1, 1) := dk_43 (dk_at dksX2_copy_1 0 rfl rfl)
theorem dX2_copy_25 : decode cX2_copy 25 = .ok (.aload_n 0, 1) := dk_42 (dk_at dksX2_copy_1 1 rfl rfl)
theorem dX2_copy_26 : decode cX2_copy 26 = .ok (.getfield 9, 3) := dk_180 0 9 (dk_at dksX2_copy_1 2 rfl rfl)
theorem dX2_copy_29 : decode cX2_copy 29 = .ok (.putfield 9, 3) := dk_181 0 9 (dk_at dksX2_copy_1 5 rfl rfl)
theorem dX2_copy_32 : decode cX2_copy 32 = .ok (.aload_n 1, 1) := dk_43 (dk_at dksX2_copy_1 8 rfl rfl)
theorem dX2_copy_33 : decode cX2_copy 33 = .ok (.aload_n 0, 1) := dk_42 (dk_at dksX2_copy_1 9 rfl rfl)
theorem dX2_copy_34 : decode cX2_copy 34 = .ok (.getfield 45, 3) := dk_180 0 45 (dk_at dksX2_copy_1 10 rfl rfl)
theorem dX2_copy_37 : decode cX2_copy 37 = .ok (.putfield 45, 3) := dk_181 0 45 (dk_at dksX2_copy_1 13 rfl rfl)
theorem dX2_copy_40 : decode cX2_copy 40 = .ok (.aload_n 1, 1) := dk_43 (dk_at dksX2_copy_1 16 rfl rfl)
theorem dX2_copy_41 : decode cX2_copy 41 = .ok (.aload_n 0, 1) := dk_42 (dk_at dksX2_copy_1 17 rfl rfl)
theorem dX2_copy_42 : decode cX2_copy 42 = .ok (.getfield 48, 3) := dk_180 0 48 (dk_at dksX2_copy_1 18 rfl rfl)
theorem dX2_copy_45 : decode cX2_copy 45 = .ok (.putfield 48, 3) := dk_181 0 48 (dk_at dksX2_copy_1 21 rfl rfl)
theorem dX2_copy_48 : decode cX2_copy 48 = .ok (.aload_n 1, 1) := dk_43 (dk_at dksX2_copy_2 0 rfl rfl)
theorem dX2_copy_49 : decode cX2_copy 49 = .ok (.aload_n 0, 1) := dk_42 (dk_at dksX2_copy_2 1 rfl rfl)
theorem dX2_copy_50 : decode cX2_copy 50 = .ok (.getfield 15, 3) := dk_180 0 15 (dk_at dksX2_copy_2 2 rfl rfl)
theorem dX2_copy_53 : decode cX2_copy 53 = .ok (.putfield 15, 3) := dk_181 0 15 (dk_at dksX2_copy_2 5 rfl rfl)
theorem dX2_copy_56 : decode cX2_copy 56 = .ok (.aload_n 1, 1) := dk_43 (dk_at dksX2_copy_2 8 rfl rfl)
theorem dX2_copy_57 : decode cX2_copy 57 = .ok (.aload_n 0, 1) := dk_42 (dk_at dksX2_copy_2 9 rfl rfl)
theorem dX2_copy_58 : decode cX2_copy 58 = .ok (.getfield 51, 3) := dk_180 0 51 (dk_at dksX2_copy_2 10 rfl rfl)
theorem dX2_copy_61 : decode cX2_copy 61 = .ok (.putfield 51, 3) := dk_181 0 51 (dk_at dksX2_copy_2 13 rfl rfl)
theorem dX2_copy_64 : decode cX2_copy 64 = .ok (.aload_n 1, 1) := dk_43 (dk_at dksX2_copy_2 16 rfl rfl)
theorem dX2_copy_65 : decode cX2_copy 65 = .ok (.aload_n 0, 1) := dk_42 (dk_at dksX2_copy_2 17 rfl rfl)
theorem dX2_copy_66 : decode cX2_copy 66 = .ok (.getfield 54, 3) := dk_180 0 54 (dk_at dksX2_copy_2 18 rfl rfl)
theorem dX2_copy_69 : decode cX2_copy 69 = .ok (.putfield 54, 3) := dk_181 0 54 (dk_at dksX2_copy_2 21 rfl rfl)
theorem dX2_copy_72 : decode cX2_copy 72 = .ok (.aload_n 0, 1) := dk_42 (dk_at dksX2_copy_3 0 rfl rfl)
theorem dX2_copy_73 : decode cX2_copy 73 = .ok (.getfield 18, 3) := dk_180 0 18 (dk_at dksX2_copy_3 1 rfl rfl)
theorem dX2_copy_76 : decode cX2_copy 76 = .ok (.iconst 0, 1) := dk_3 (dk_at dksX2_copy_3 4 rfl rfl)
theorem dX2_copy_77 : decode cX2_copy 77 = .ok (.aload_n 1, 1) := dk_43 (dk_at dksX2_copy_3 5 rfl rfl)
theorem dX2_copy_78 : decode cX2_copy 78 = .ok (.getfield 18, 3) := dk_180 0 18 (dk_at dksX2_copy_3 6 rfl rfl)
theorem dX2_copy_81 : decode cX2_copy 81 = .ok (.iconst 0, 1) := dk_3 (dk_at dksX2_copy_3 9 rfl rfl)
theorem dX2_copy_82 : decode cX2_copy 82 = .ok (.bipush 8, 2) := dk_16 8 (dk_at dksX2_copy_3 10 rfl rfl)
theorem dX2_copy_84 : decode cX2_copy 84 = .ok (.invokestatic 58, 3) := dk_184 0 58 (dk_at dksX2_copy_3 12 rfl rfl)
theorem dX2_copy_87 : decode cX2_copy 87 = .ok (.iconst 0, 1) := dk_3 (dk_at dksX2_copy_3 15 rfl rfl)
theorem dX2_copy_88 : decode cX2_copy 88 = .ok (.istore_n 2, 1) := dk_61 (dk_at dksX2_copy_3 16 rfl rfl)
theorem dX2_copy_89 : decode cX2_copy 89 = .ok (.iload_n 2, 1) := dk_28 (dk_at dksX2_copy_3 17 rfl rfl)
theorem dX2_copy_90 : decode cX2_copy 90 = .ok (.aload_n 0, 1) := dk_42 (dk_at dksX2_copy_3 18 rfl rfl)
theorem dX2_copy_91 : decode cX2_copy 91 = .ok (.getfield 25, 3) := dk_180 0 25 (dk_at dksX2_copy_3 19 rfl rfl)
theorem dX2_copy_94 : decode cX2_copy 94 = .ok (.invokevirtual 64, 3) := dk_182 0 64 (dk_at dksX2_copy_4 0 rfl rfl)
theorem dX2_copy_97 : decode cX2_copy 97 = .ok (.if_icmp .ge 31, 3) := dk_162 0 31 (dk_at dksX2_copy_4 3 rfl rfl)
theorem dX2_copy_100 : decode cX2_copy 100 = .ok (.aload_n 1, 1) := dk_43 (dk_at dksX2_copy_4 6 rfl rfl)
theorem dX2_copy_101 : decode cX2_copy 101 = .ok (.getfield 25, 3) := dk_180 0 25 (dk_at dksX2_copy_4 7 rfl rfl)
theorem dX2_copy_104 : decode cX2_copy 104 = .ok (.aload_n 0, 1) := dk_42 (dk_at dksX2_copy_4 10 rfl rfl)
theorem dX2_copy_105 : decode cX2_copy 105 = .ok (.getfield 25, 3) := dk_180 0 25 (dk_at dksX2_copy_4 11 rfl rfl)
theorem dX2_copy_108 : decode cX2_copy 108 = .ok (.iload_n 2, 1) := dk_28 (dk_at dksX2_copy_4 14 rfl rfl)
theorem dX2_copy_109 : decode cX2_copy 109 = .ok (.invokevirtual 68, 3) := dk_182 0 68 (dk_at dksX2_copy_4 15 rfl rfl)
theorem dX2_copy_112 : decode cX2_copy 112 = .ok (.checkcast 72, 3) := dk_192 0 72 (dk_at dksX2_copy_4 18 rfl rfl)
theorem dX2_copy_115 : decode cX2_copy 115 = .ok (.invokevirtual 74, 3) := dk_182 0 74 (dk_at dksX2_copy_4 21 rfl rfl)
theorem dX2_copy_118 : decode cX2_copy 118 = .ok (.invokevirtual 78, 3) := dk_182 0 78 (dk_at dksX2_copy_5 0 rfl rfl)
theorem dX2_copy_121 : decode cX2_copy 121 = .ok (.pop, 1) := dk_87 (dk_at dksX2_copy_5 3 rfl rfl)
theorem dX2_copy_122 : decode cX2_copy 122 = .ok (.iinc 2 1, 3) := dk_132 2 1 (dk_at dksX2_copy_5 4 rfl rfl)
theorem dX2_copy_125 : decode cX2_copy 125 = .ok (.goto (-36), 3) := dk_167 255 220 (dk_at dksX2_copy_5 7 rfl rfl)
theorem dX2_copy_128 : decode cX2_copy 128 = .ok (.iconst 0, 1) := dk_3 (dk_at dksX2_copy_5 10 rfl rfl)
theorem dX2_copy_129 : decode cX2_copy 129 = .ok (.istore_n 2, 1) := dk_61 (dk_at dksX2_copy_5 11 rfl rfl)
theorem dX2_copy_130 : decode cX2_copy 130 = .ok (.iload_n 2, 1) := dk_28 (dk_at dksX2_copy_5 12 rfl rfl)
theorem dX2_copy_131 : decode cX2_copy 131 = .ok (.aload_n 0, 1) := dk_42 (dk_at dksX2_copy_5 13 rfl rfl)
theorem dX2_copy_132 : decode cX2_copy 132 = .ok (.getfield 29, 3) := dk_180 0 29 (dk_at dksX2_copy_5 14 rfl rfl)
theorem dX2_copy_135 : decode cX2_copy 135 = .ok (.invokevirtual 64, 3) := dk_182 0 64 (dk_at dksX2_copy_5 17 rfl rfl)
theorem dX2_copy_138 : decode cX2_copy 138 = .ok (.if_icmp .ge 31, 3) := dk_162 0 31 (dk_at dksX2_copy_5 20 rfl rfl)
theorem dX2_copy_141 : decode cX2_copy 141 = .ok (.aload_n 1, 1) := dk_43 (dk_at dksX2_copy_5 23 rfl rfl)
theorem dX2_copy_142 : decode cX2_copy 142 = .ok (.getfield 29, 3) := dk_180 0 29 (dk_at dksX2_copy_6 0 rfl rfl)
theorem dX2_copy_145 : decode cX2_copy 145 = .ok (.aload_n 0, 1) := dk_42 (dk_at dksX2_copy_6 3 rfl rfl)
theorem dX2_copy_146 : decode cX2_copy 146 = .ok (.getfield 29, 3) := dk_180 0 29 (dk_at dksX2_copy_6 4 rfl rfl)
theorem dX2_copy_149 : decode cX2_copy 149 = .ok (.iload_n 2, 1) := dk_28 (dk_at dksX2_copy_6 7 rfl rfl)
theorem dX2_copy_150 : decode cX2_copy 150 = .ok (.invokevirtual 68, 3) := dk_182 0 68 (dk_at dksX2_copy_6 8 rfl rfl)
theorem dX2_copy_153 : decode cX2_copy 153 = .ok (.checkcast 82, 3) := dk_192 0 82 (dk_at dksX2_copy_6 11 rfl rfl)
theorem dX2_copy_156 : decode cX2_copy 156 = .ok (.invokevirtual 84, 3) := dk_182 0 84 (dk_at dksX2_copy_6 14 rfl rfl)
theorem dX2_copy_159 : decode cX2_copy 159 = .ok (.invokevirtual 78, 3) := dk_182 0 78 (dk_at dksX2_copy_6 17 rfl rfl)
theorem dX2_copy_162 : decode cX2_copy 162 = .ok (.pop, 1) := dk_87 (dk_at dksX2_copy_6 20 rfl rfl)
theorem dX2_copy_163 : decode cX2_copy 163 = .ok (.iinc 2 1, 3) := dk_132 2 1 (dk_at dksX2_copy_6 21 rfl rfl)
theorem dX2_copy_166 : decode cX2_copy 166 = .ok (.goto (-36), 3) := dk_167 255 220 (dk_at dksX2_copy_7 0 rfl rfl)
theorem dX2_copy_169 : decode cX2_copy 169 = .ok (.iconst 0, 1) := dk_3 (dk_at dksX2_copy_7 3 rfl rfl)
theorem dX2_copy_170 : decode cX2_copy 170 = .ok (.istore_n 2, 1) := dk_61 (dk_at dksX2_copy_7 4 rfl rfl)
theorem dX2_copy_171 : decode cX2_copy 171 = .ok (.iload_n 2, 1) := dk_28 (dk_at dksX2_copy_7 5 rfl rfl)
theorem dX2_copy_172 : decode cX2_copy 172 = .ok (.aload_n 0, 1) := dk_42 (dk_at dksX2_copy_7 6 rfl rfl)
theorem dX2_copy_173 : decode cX2_copy 173 = .ok (.getfield 35, 3) := dk_180 0 35 (dk_at dksX2_copy_7 7 rfl rfl)
theorem dX2_copy_176 : decode cX2_copy 176 = .ok (.invokevirtual 64, 3) := dk_182 0 64 (dk_at dksX2_copy_7 10 rfl rfl)
theorem dX2_copy_179 : decode cX2_copy 179 = .ok (.if_icmp .ge 31, 3) := dk_162 0 31 (dk_at dksX2_copy_7 13 rfl rfl)
theorem dX2_copy_182 : decode cX2_copy 182 = .ok (.aload_n 1, 1) := dk_43 (dk_at dksX2_copy_7 16 rfl rfl)
theorem dX2_copy_183 : decode cX2_copy 183 = .ok (.getfield 35, 3) := dk_180 0 35 (dk_at dksX2_copy_7 17 rfl rfl)
theorem dX2_copy_186 : decode cX2_copy 186 = .ok (.aload_n 0, 1) := dk_42 (dk_at dksX2_copy_7 20 rfl rfl)
theorem dX2_copy_187 : decode cX2_copy 187 = .ok (.getfield 35, 3) := dk_180 0 35 (dk_at dksX2_copy_7 21 rfl rfl)
theorem dX2_copy_190 : decode cX2_copy 190 = .ok (.iload_n 2, 1) := dk_28 (dk_at dksX2_copy_8 0 rfl rfl)
theorem dX2_copy_191 : decode cX2_copy 191 = .ok (.invokevirtual 68, 3) := dk_182 0 68 (dk_at dksX2_copy_8 1 rfl rfl)
theorem dX2_copy_194 : decode cX2_copy 194 = .ok (.checkcast 87, 3) := dk_192 0 87 (dk_at dksX2_copy_8 4 rfl rfl)
theorem dX2_copy_197 : decode cX2_copy 197 = .ok (.invokevirtual 89, 3) := dk_182 0 89 (dk_at dksX2_copy_8 7 rfl rfl)
theorem dX2_copy_200 : decode cX2_copy 200 = .ok (.invokevirtual 78, 3) := dk_182 0 78 (dk_at dksX2_copy_8 10 rfl rfl)
theorem dX2_copy_203 : decode cX2_copy 203 = .ok (.pop, 1) := dk_87 (dk_at dksX2_copy_8 13 rfl rfl)
theorem dX2_copy_204 : decode cX2_copy 204 = .ok (.iinc 2 1, 3) := dk_132 2 1 (dk_at dksX2_copy_8 14 rfl rfl)
theorem dX2_copy_207 : decode cX2_copy 207 = .ok (.goto (-36), 3) := dk_167 255 220 (dk_at dksX2_copy_8 17 rfl rfl)
theorem dX2_copy_210 : decode cX2_copy 210 = .ok (.aload_n 1, 1) := dk_43 (dk_at dksX2_copy_8 20 rfl rfl)
theorem dX2_copy_211 : decode cX2_copy 211 = .ok (.getfield 32, 3) := dk_180 0 32 (dk_at dksX2_copy_8 21 rfl rfl)
theorem dX2_copy_214 : decode cX2_copy 214 = .ok (.aload_n 0, 1) := dk_42 (dk_at dksX2_copy_9 0 rfl rfl)
theorem dX2_copy_215 : decode cX2_copy 215 = .ok (.getfield 32, 3) := dk_180 0 32 (dk_at dksX2_copy_9 1 rfl rfl)
theorem dX2_copy_218 : decode cX2_copy 218 = .ok (.invokevirtual 92, 3) := dk_182 0 92 (dk_at dksX2_copy_9 4 rfl rfl)
theorem dX2_copy_221 : decode cX2_copy 221 = .ok (.pop, 1) := dk_87 (dk_at dksX2_copy_9 7 rfl rfl)
theorem dX2_copy_222 : decode cX2_copy 222 = .ok (.aload_n 1, 1) := dk_43 (dk_at dksX2_copy_9 8 rfl rfl)
theorem dX2_copy_223 : decode cX2_copy 223 = .ok (.areturn, 1) := dk_176 (dk_at dksX2_copy_9 9 rfl rfl)
abbrev cX2_burnt : ByteArray := prog_20_method_4_code
def yX2_burnt : MethodName := ⟨RX2, "burnt", "()I"⟩
def dkwX2_burnt_1 : List UInt8 := [192, 0, 87, 180, 0, 99, 153, 0, 7, 4, 167, 0, 4, 3, 96, 60, 132, 2, 1, 167, 255, 217, 27, 172]
abbrev dktX2_burnt_1 : List UInt8 := dkwX2_burnt_1 ++ []
def dkwX2_burnt_0 : List UInt8 := [3, 60, 3, 61, 28, 42, 180, 0, 35, 182, 0, 64, 162, 0, 34, 27, 42, 180, 0, 35, 28, 182, 0, 68]
abbrev dktX2_burnt_0 : List UInt8 := dkwX2_burnt_0 ++ dktX2_burnt_1
theorem dksX2_burnt_0 : cX2_burnt.data.toList.drop 0 = dktX2_burnt_0 := by decide +kernel
theorem dksX2_burnt_1 : cX2_burnt.data.toList.drop 24 = dktX2_burnt_1 := dk_seg dksX2_burnt_0 24 rfl rfl
theorem dX2_burnt_0 : decode cX2_burnt 0 = .ok (.iconst 0, 1) := dk_3 (dk_at dksX2_burnt_0 0 rfl rfl)
theorem dX2_burnt_1 : decode cX2_burnt 1 = .ok (.istore_n 1, 1) := dk_60 (dk_at dksX2_burnt_0 1 rfl rfl)
theorem dX2_burnt_2 : decode cX2_burnt 2 = .ok (.iconst 0, 1) := dk_3 (dk_at dksX2_burnt_0 2 rfl rfl)
theorem dX2_burnt_3 : decode cX2_burnt 3 = .ok (.istore_n 2, 1) := dk_61 (dk_at dksX2_burnt_0 3 rfl rfl)
theorem dX2_burnt_4 : decode cX2_burnt 4 = .ok (.iload_n 2, 1) := dk_28 (dk_at dksX2_burnt_0 4 rfl rfl)
theorem dX2_burnt_5 : decode cX2_burnt 5 = .ok (.aload_n 0, 1) := dk_42 (dk_at dksX2_burnt_0 5 rfl rfl)
theorem dX2_burnt_6 : decode cX2_burnt 6 = .ok (.getfield 35, 3) := dk_180 0 35 (dk_at dksX2_burnt_0 6 rfl rfl)
theorem dX2_burnt_9 : decode cX2_burnt 9 = .ok (.invokevirtual 64, 3) := dk_182 0 64 (dk_at dksX2_burnt_0 9 rfl rfl)
theorem dX2_burnt_12 : decode cX2_burnt 12 = .ok (.if_icmp .ge 34, 3) := dk_162 0 34 (dk_at dksX2_burnt_0 12 rfl rfl)
theorem dX2_burnt_15 : decode cX2_burnt 15 = .ok (.iload_n 1, 1) := dk_27 (dk_at dksX2_burnt_0 15 rfl rfl)
theorem dX2_burnt_16 : decode cX2_burnt 16 = .ok (.aload_n 0, 1) := dk_42 (dk_at dksX2_burnt_0 16 rfl rfl)
theorem dX2_burnt_17 : decode cX2_burnt 17 = .ok (.getfield 35, 3) := dk_180 0 35 (dk_at dksX2_burnt_0 17 rfl rfl)
theorem dX2_burnt_20 : decode cX2_burnt 20 = .ok (.iload_n 2, 1) := dk_28 (dk_at dksX2_burnt_0 20 rfl rfl)
theorem dX2_burnt_21 : decode cX2_burnt 21 = .ok (.invokevirtual 68, 3) := dk_182 0 68 (dk_at dksX2_burnt_0 21 rfl rfl)
theorem dX2_burnt_24 : decode cX2_burnt 24 = .ok (.checkcast 87, 3) := dk_192 0 87 (dk_at dksX2_burnt_1 0 rfl rfl)
theorem dX2_burnt_27 : decode cX2_burnt 27 = .ok (.getfield 99, 3) := dk_180 0 99 (dk_at dksX2_burnt_1 3 rfl rfl)
theorem dX2_burnt_30 : decode cX2_burnt 30 = .ok (.ifCond .eq 7, 3) := dk_153 0 7 (dk_at dksX2_burnt_1 6 rfl rfl)
theorem dX2_burnt_33 : decode cX2_burnt 33 = .ok (.iconst 1, 1) := dk_4 (dk_at dksX2_burnt_1 9 rfl rfl)
theorem dX2_burnt_34 : decode cX2_burnt 34 = .ok (.goto 4, 3) := dk_167 0 4 (dk_at dksX2_burnt_1 10 rfl rfl)
theorem dX2_burnt_37 : decode cX2_burnt 37 = .ok (.iconst 0, 1) := dk_3 (dk_at dksX2_burnt_1 13 rfl rfl)
theorem dX2_burnt_38 : decode cX2_burnt 38 = .ok (.iadd, 1) := dk_96 (dk_at dksX2_burnt_1 14 rfl rfl)
theorem dX2_burnt_39 : decode cX2_burnt 39 = .ok (.istore_n 1, 1) := dk_60 (dk_at dksX2_burnt_1 15 rfl rfl)
theorem dX2_burnt_40 : decode cX2_burnt 40 = .ok (.iinc 2 1, 3) := dk_132 2 1 (dk_at dksX2_burnt_1 16 rfl rfl)
theorem dX2_burnt_43 : decode cX2_burnt 43 = .ok (.goto (-39), 3) := dk_167 255 217 (dk_at dksX2_burnt_1 19 rfl rfl)
theorem dX2_burnt_46 : decode cX2_burnt 46 = .ok (.iload_n 1, 1) := dk_27 (dk_at dksX2_burnt_1 22 rfl rfl)
theorem dX2_burnt_47 : decode cX2_burnt 47 = .ok (.ireturn, 1) := dk_172 (dk_at dksX2_burnt_1 23 rfl rfl)
abbrev cX2_beads : ByteArray := prog_20_method_3_code
def yX2_beads : MethodName := ⟨RX2, "beads", "(I)I"⟩
def dkwX2_beads_2 : List UInt8 := [172]
abbrev dktX2_beads_2 : List UInt8 := dkwX2_beads_2 ++ []
def dkwX2_beads_1 : List UInt8 := [192, 0, 87, 180, 0, 96, 27, 160, 0, 7, 4, 167, 0, 4, 3, 96, 61, 132, 3, 1, 167, 255, 216, 28]
abbrev dktX2_beads_1 : List UInt8 := dkwX2_beads_1 ++ dktX2_beads_2
def dkwX2_beads_0 : List UInt8 := [3, 61, 3, 62, 29, 42, 180, 0, 35, 182, 0, 64, 162, 0, 35, 28, 42, 180, 0, 35, 29, 182, 0, 68]
abbrev dktX2_beads_0 : List UInt8 := dkwX2_beads_0 ++ dktX2_beads_1
theorem dksX2_beads_0 : cX2_beads.data.toList.drop 0 = dktX2_beads_0 := by decide +kernel
theorem dksX2_beads_1 : cX2_beads.data.toList.drop 24 = dktX2_beads_1 := dk_seg dksX2_beads_0 24 rfl rfl
theorem dksX2_beads_2 : cX2_beads.data.toList.drop 48 = dktX2_beads_2 := dk_seg dksX2_beads_1 24 rfl rfl
theorem dX2_beads_0 : decode cX2_beads 0 = .ok (.iconst 0, 1) := dk_3 (dk_at dksX2_beads_0 0 rfl rfl)
theorem dX2_beads_1 : decode cX2_beads 1 = .ok (.istore_n 2, 1) := dk_61 (dk_at dksX2_beads_0 1 rfl rfl)
theorem dX2_beads_2 : decode cX2_beads 2 = .ok (.iconst 0, 1) := dk_3 (dk_at dksX2_beads_0 2 rfl rfl)
theorem dX2_beads_3 : decode cX2_beads 3 = .ok (.istore_n 3, 1) := dk_62 (dk_at dksX2_beads_0 3 rfl rfl)
theorem dX2_beads_4 : decode cX2_beads 4 = .ok (.iload_n 3, 1) := dk_29 (dk_at dksX2_beads_0 4 rfl rfl)
theorem dX2_beads_5 : decode cX2_beads 5 = .ok (.aload_n 0, 1) := dk_42 (dk_at dksX2_beads_0 5 rfl rfl)
theorem dX2_beads_6 : decode cX2_beads 6 = .ok (.getfield 35, 3) := dk_180 0 35 (dk_at dksX2_beads_0 6 rfl rfl)
theorem dX2_beads_9 : decode cX2_beads 9 = .ok (.invokevirtual 64, 3) := dk_182 0 64 (dk_at dksX2_beads_0 9 rfl rfl)
theorem dX2_beads_12 : decode cX2_beads 12 = .ok (.if_icmp .ge 35, 3) := dk_162 0 35 (dk_at dksX2_beads_0 12 rfl rfl)
theorem dX2_beads_15 : decode cX2_beads 15 = .ok (.iload_n 2, 1) := dk_28 (dk_at dksX2_beads_0 15 rfl rfl)
theorem dX2_beads_16 : decode cX2_beads 16 = .ok (.aload_n 0, 1) := dk_42 (dk_at dksX2_beads_0 16 rfl rfl)
theorem dX2_beads_17 : decode cX2_beads 17 = .ok (.getfield 35, 3) := dk_180 0 35 (dk_at dksX2_beads_0 17 rfl rfl)
theorem dX2_beads_20 : decode cX2_beads 20 = .ok (.iload_n 3, 1) := dk_29 (dk_at dksX2_beads_0 20 rfl rfl)
theorem dX2_beads_21 : decode cX2_beads 21 = .ok (.invokevirtual 68, 3) := dk_182 0 68 (dk_at dksX2_beads_0 21 rfl rfl)
theorem dX2_beads_24 : decode cX2_beads 24 = .ok (.checkcast 87, 3) := dk_192 0 87 (dk_at dksX2_beads_1 0 rfl rfl)
theorem dX2_beads_27 : decode cX2_beads 27 = .ok (.getfield 96, 3) := dk_180 0 96 (dk_at dksX2_beads_1 3 rfl rfl)
theorem dX2_beads_30 : decode cX2_beads 30 = .ok (.iload_n 1, 1) := dk_27 (dk_at dksX2_beads_1 6 rfl rfl)
theorem dX2_beads_31 : decode cX2_beads 31 = .ok (.if_icmp .ne 7, 3) := dk_160 0 7 (dk_at dksX2_beads_1 7 rfl rfl)
theorem dX2_beads_34 : decode cX2_beads 34 = .ok (.iconst 1, 1) := dk_4 (dk_at dksX2_beads_1 10 rfl rfl)
theorem dX2_beads_35 : decode cX2_beads 35 = .ok (.goto 4, 3) := dk_167 0 4 (dk_at dksX2_beads_1 11 rfl rfl)
theorem dX2_beads_38 : decode cX2_beads 38 = .ok (.iconst 0, 1) := dk_3 (dk_at dksX2_beads_1 14 rfl rfl)
theorem dX2_beads_39 : decode cX2_beads 39 = .ok (.iadd, 1) := dk_96 (dk_at dksX2_beads_1 15 rfl rfl)
theorem dX2_beads_40 : decode cX2_beads 40 = .ok (.istore_n 2, 1) := dk_61 (dk_at dksX2_beads_1 16 rfl rfl)
theorem dX2_beads_41 : decode cX2_beads 41 = .ok (.iinc 3 1, 3) := dk_132 3 1 (dk_at dksX2_beads_1 17 rfl rfl)
theorem dX2_beads_44 : decode cX2_beads 44 = .ok (.goto (-40), 3) := dk_167 255 216 (dk_at dksX2_beads_1 20 rfl rfl)
theorem dX2_beads_47 : decode cX2_beads 47 = .ok (.iload_n 2, 1) := dk_28 (dk_at dksX2_beads_1 23 rfl rfl)
theorem dX2_beads_48 : decode cX2_beads 48 = .ok (.ireturn, 1) := dk_172 (dk_at dksX2_beads_2 0 rfl rfl)
abbrev cX2_paces : ByteArray := prog_20_method_5_code
def yX2_paces : MethodName := ⟨RX2, "paces", "(I)I"⟩
def dkwX2_paces_1 : List UInt8 := [96, 61, 132, 3, 1, 167, 255, 231, 28, 172]
abbrev dktX2_paces_1 : List UInt8 := dkwX2_paces_1 ++ []
def dkwX2_paces_0 : List UInt8 := [3, 61, 3, 62, 29, 27, 162, 0, 26, 28, 42, 180, 0, 29, 29, 182, 0, 68, 192, 0, 82, 180, 0, 103]
abbrev dktX2_paces_0 : List UInt8 := dkwX2_paces_0 ++ dktX2_paces_1
theorem dksX2_paces_0 : cX2_paces.data.toList.drop 0 = dktX2_paces_0 := by decide +kernel
theorem dksX2_paces_1 : cX2_paces.data.toList.drop 24 = dktX2_paces_1 := dk_seg dksX2_paces_0 24 rfl rfl
theorem dX2_paces_0 : decode cX2_paces 0 = .ok (.iconst 0, 1) := dk_3 (dk_at dksX2_paces_0 0 rfl rfl)
theorem dX2_paces_1 : decode cX2_paces 1 = .ok (.istore_n 2, 1) := dk_61 (dk_at dksX2_paces_0 1 rfl rfl)
theorem dX2_paces_2 : decode cX2_paces 2 = .ok (.iconst 0, 1) := dk_3 (dk_at dksX2_paces_0 2 rfl rfl)
theorem dX2_paces_3 : decode cX2_paces 3 = .ok (.istore_n 3, 1) := dk_62 (dk_at dksX2_paces_0 3 rfl rfl)
theorem dX2_paces_4 : decode cX2_paces 4 = .ok (.iload_n 3, 1) := dk_29 (dk_at dksX2_paces_0 4 rfl rfl)
theorem dX2_paces_5 : decode cX2_paces 5 = .ok (.iload_n 1, 1) := dk_27 (dk_at dksX2_paces_0 5 rfl rfl)
theorem dX2_paces_6 : decode cX2_paces 6 = .ok (.if_icmp .ge 26, 3) := dk_162 0 26 (dk_at dksX2_paces_0 6 rfl rfl)
theorem dX2_paces_9 : decode cX2_paces 9 = .ok (.iload_n 2, 1) := dk_28 (dk_at dksX2_paces_0 9 rfl rfl)
theorem dX2_paces_10 : decode cX2_paces 10 = .ok (.aload_n 0, 1) := dk_42 (dk_at dksX2_paces_0 10 rfl rfl)
theorem dX2_paces_11 : decode cX2_paces 11 = .ok (.getfield 29, 3) := dk_180 0 29 (dk_at dksX2_paces_0 11 rfl rfl)
theorem dX2_paces_14 : decode cX2_paces 14 = .ok (.iload_n 3, 1) := dk_29 (dk_at dksX2_paces_0 14 rfl rfl)
theorem dX2_paces_15 : decode cX2_paces 15 = .ok (.invokevirtual 68, 3) := dk_182 0 68 (dk_at dksX2_paces_0 15 rfl rfl)
theorem dX2_paces_18 : decode cX2_paces 18 = .ok (.checkcast 82, 3) := dk_192 0 82 (dk_at dksX2_paces_0 18 rfl rfl)
theorem dX2_paces_21 : decode cX2_paces 21 = .ok (.getfield 103, 3) := dk_180 0 103 (dk_at dksX2_paces_0 21 rfl rfl)
theorem dX2_paces_24 : decode cX2_paces 24 = .ok (.iadd, 1) := dk_96 (dk_at dksX2_paces_1 0 rfl rfl)
theorem dX2_paces_25 : decode cX2_paces 25 = .ok (.istore_n 2, 1) := dk_61 (dk_at dksX2_paces_1 1 rfl rfl)
theorem dX2_paces_26 : decode cX2_paces 26 = .ok (.iinc 3 1, 3) := dk_132 3 1 (dk_at dksX2_paces_1 2 rfl rfl)
theorem dX2_paces_29 : decode cX2_paces 29 = .ok (.goto (-25), 3) := dk_167 255 231 (dk_at dksX2_paces_1 5 rfl rfl)
theorem dX2_paces_32 : decode cX2_paces 32 = .ok (.iload_n 2, 1) := dk_28 (dk_at dksX2_paces_1 8 rfl rfl)
theorem dX2_paces_33 : decode cX2_paces 33 = .ok (.ireturn, 1) := dk_172 (dk_at dksX2_paces_1 9 rfl rfl)
abbrev cX2_may : ByteArray := prog_20_method_6_code
def yX2_may : MethodName := ⟨RX2, "may", "(IIZ)Z"⟩
def dkwX2_may_6 : List UInt8 := [172]
abbrev dktX2_may_6 : List UInt8 := dkwX2_may_6 ++ []
def dkwX2_may_5 : List UInt8 := [163, 0, 17, 167, 0, 12, 25, 5, 180, 0, 113, 29, 160, 0, 5, 3, 172, 132, 4, 1, 167, 255, 175, 4]
abbrev dktX2_may_5 : List UInt8 := dkwX2_may_5 ++ dktX2_may_6
def dkwX2_may_4 : List UInt8 := [180, 0, 112, 42, 180, 0, 48, 162, 0, 23, 42, 180, 0, 48, 25, 5, 180, 0, 112, 100, 42, 180, 0, 45]
abbrev dktX2_may_4 : List UInt8 := dkwX2_may_4 ++ dktX2_may_5
def dkwX2_may_3 : List UInt8 := [180, 0, 35, 21, 4, 182, 0, 68, 192, 0, 87, 58, 5, 25, 5, 180, 0, 109, 27, 160, 0, 46, 25, 5]
abbrev dktX2_may_3 : List UInt8 := dkwX2_may_3 ++ dktX2_may_4
def dkwX2_may_2 : List UInt8 := [132, 4, 1, 167, 255, 223, 3, 54, 4, 21, 4, 42, 180, 0, 35, 182, 0, 64, 162, 0, 75, 42]
abbrev dktX2_may_2 : List UInt8 := dkwX2_may_2 ++ dktX2_may_3
def dkwX2_may_1 : List UInt8 := [180, 0, 29, 21, 4, 182, 0, 68, 192, 0, 82, 180, 0, 106, 42, 180, 0, 9, 161, 0, 5, 3, 172]
abbrev dktX2_may_1 : List UInt8 := dkwX2_may_1 ++ dktX2_may_2
def dkwX2_may_0 : List UInt8 := [42, 180, 0, 35, 182, 0, 64, 16, 60, 160, 0, 5, 3, 172, 3, 54, 4, 21, 4, 28, 162, 0, 33, 42]
abbrev dktX2_may_0 : List UInt8 := dkwX2_may_0 ++ dktX2_may_1
theorem dksX2_may_0 : cX2_may.data.toList.drop 0 = dktX2_may_0 := by decide +kernel
theorem dksX2_may_1 : cX2_may.data.toList.drop 24 = dktX2_may_1 := dk_seg dksX2_may_0 24 rfl rfl
theorem dksX2_may_2 : cX2_may.data.toList.drop 47 = dktX2_may_2 := dk_seg dksX2_may_1 23 rfl rfl
theorem dksX2_may_3 : cX2_may.data.toList.drop 69 = dktX2_may_3 := dk_seg dksX2_may_2 22 rfl rfl
theorem dksX2_may_4 : cX2_may.data.toList.drop 93 = dktX2_may_4 := dk_seg dksX2_may_3 24 rfl rfl
theorem dksX2_may_5 : cX2_may.data.toList.drop 117 = dktX2_may_5 := dk_seg dksX2_may_4 24 rfl rfl
theorem dksX2_may_6 : cX2_may.data.toList.drop 141 = dktX2_may_6 := dk_seg dksX2_may_5 24 rfl rfl
theorem dX2_may_0 : decode cX2_may 0 = .ok (.aload_n 0, 1) := dk_42 (dk_at dksX2_may_0 0 rfl rfl)
theorem dX2_may_1 : decode cX2_may 1 = .ok (.getfield 35, 3) := dk_180 0 35 (dk_at dksX2_may_0 1 rfl rfl)
theorem dX2_may_4 : decode cX2_may 4 = .ok (.invokevirtual 64, 3) := dk_182 0 64 (dk_at dksX2_may_0 4 rfl rfl)
theorem dX2_may_7 : decode cX2_may 7 = .ok (.bipush 60, 2) := dk_16 60 (dk_at dksX2_may_0 7 rfl rfl)
theorem dX2_may_9 : decode cX2_may 9 = .ok (.if_icmp .ne 5, 3) := dk_160 0 5 (dk_at dksX2_may_0 9 rfl rfl)
theorem dX2_may_12 : decode cX2_may 12 = .ok (.iconst 0, 1) := dk_3 (dk_at dksX2_may_0 12 rfl rfl)
theorem dX2_may_13 : decode cX2_may 13 = .ok (.ireturn, 1) := dk_172 (dk_at dksX2_may_0 13 rfl rfl)
theorem dX2_may_14 : decode cX2_may 14 = .ok (.iconst 0, 1) := dk_3 (dk_at dksX2_may_0 14 rfl rfl)
theorem dX2_may_15 : decode cX2_may 15 = .ok (.istore 4, 2) := dk_54 4 (dk_at dksX2_may_0 15 rfl rfl)
theorem dX2_may_17 : decode cX2_may 17 = .ok (.iload 4, 2) := dk_21 4 (dk_at dksX2_may_0 17 rfl rfl)
theorem dX2_may_19 : decode cX2_may 19 = .ok (.iload_n 2, 1) := dk_28 (dk_at dksX2_may_0 19 rfl rfl)
theorem dX2_may_20 : decode cX2_may 20 = .ok (.if_icmp .ge 33, 3) := dk_162 0 33 (dk_at dksX2_may_0 20 rfl rfl)
theorem dX2_may_23 : decode cX2_may 23 = .ok (.aload_n 0, 1) := dk_42 (dk_at dksX2_may_0 23 rfl rfl)
theorem dX2_may_24 : decode cX2_may 24 = .ok (.getfield 29, 3) := dk_180 0 29 (dk_at dksX2_may_1 0 rfl rfl)
theorem dX2_may_27 : decode cX2_may 27 = .ok (.iload 4, 2) := dk_21 4 (dk_at dksX2_may_1 3 rfl rfl)
theorem dX2_may_29 : decode cX2_may 29 = .ok (.invokevirtual 68, 3) := dk_182 0 68 (dk_at dksX2_may_1 5 rfl rfl)
theorem dX2_may_32 : decode cX2_may 32 = .ok (.checkcast 82, 3) := dk_192 0 82 (dk_at dksX2_may_1 8 rfl rfl)
theorem dX2_may_35 : decode cX2_may 35 = .ok (.getfield 106, 3) := dk_180 0 106 (dk_at dksX2_may_1 11 rfl rfl)
theorem dX2_may_38 : decode cX2_may 38 = .ok (.aload_n 0, 1) := dk_42 (dk_at dksX2_may_1 14 rfl rfl)
theorem dX2_may_39 : decode cX2_may 39 = .ok (.getfield 9, 3) := dk_180 0 9 (dk_at dksX2_may_1 15 rfl rfl)
theorem dX2_may_42 : decode cX2_may 42 = .ok (.if_icmp .lt 5, 3) := dk_161 0 5 (dk_at dksX2_may_1 18 rfl rfl)
theorem dX2_may_45 : decode cX2_may 45 = .ok (.iconst 0, 1) := dk_3 (dk_at dksX2_may_1 21 rfl rfl)
theorem dX2_may_46 : decode cX2_may 46 = .ok (.ireturn, 1) := dk_172 (dk_at dksX2_may_1 22 rfl rfl)
theorem dX2_may_47 : decode cX2_may 47 = .ok (.iinc 4 1, 3) := dk_132 4 1 (dk_at dksX2_may_2 0 rfl rfl)
theorem dX2_may_50 : decode cX2_may 50 = .ok (.goto (-33), 3) := dk_167 255 223 (dk_at dksX2_may_2 3 rfl rfl)
theorem dX2_may_53 : decode cX2_may 53 = .ok (.iconst 0, 1) := dk_3 (dk_at dksX2_may_2 6 rfl rfl)
theorem dX2_may_54 : decode cX2_may 54 = .ok (.istore 4, 2) := dk_54 4 (dk_at dksX2_may_2 7 rfl rfl)
theorem dX2_may_56 : decode cX2_may 56 = .ok (.iload 4, 2) := dk_21 4 (dk_at dksX2_may_2 9 rfl rfl)
theorem dX2_may_58 : decode cX2_may 58 = .ok (.aload_n 0, 1) := dk_42 (dk_at dksX2_may_2 11 rfl rfl)
theorem dX2_may_59 : decode cX2_may 59 = .ok (.getfield 35, 3) := dk_180 0 35 (dk_at dksX2_may_2 12 rfl rfl)
theorem dX2_may_62 : decode cX2_may 62 = .ok (.invokevirtual 64, 3) := dk_182 0 64 (dk_at dksX2_may_2 15 rfl rfl)
theorem dX2_may_65 : decode cX2_may 65 = .ok (.if_icmp .ge 75, 3) := dk_162 0 75 (dk_at dksX2_may_2 18 rfl rfl)
theorem dX2_may_68 : decode cX2_may 68 = .ok (.aload_n 0, 1) := dk_42 (dk_at dksX2_may_2 21 rfl rfl)
theorem dX2_may_69 : decode cX2_may 69 = .ok (.getfield 35, 3) := dk_180 0 35 (dk_at dksX2_may_3 0 rfl rfl)
theorem dX2_may_72 : decode cX2_may 72 = .ok (.iload 4, 2) := dk_21 4 (dk_at dksX2_may_3 3 rfl rfl)
theorem dX2_may_74 : decode cX2_may 74 = .ok (.invokevirtual 68, 3) := dk_182 0 68 (dk_at dksX2_may_3 5 rfl rfl)
theorem dX2_may_77 : decode cX2_may 77 = .ok (.checkcast 87, 3) := dk_192 0 87 (dk_at dksX2_may_3 8 rfl rfl)
theorem dX2_may_80 : decode cX2_may 80 = .ok (.astore 5, 2) := dk_58 5 (dk_at dksX2_may_3 11 rfl rfl)
theorem dX2_may_82 : decode cX2_may 82 = .ok (.aload 5, 2) := dk_25 5 (dk_at dksX2_may_3 13 rfl rfl)
theorem dX2_may_84 : decode cX2_may 84 = .ok (.getfield 109, 3) := dk_180 0 109 (dk_at dksX2_may_3 15 rfl rfl)
theorem dX2_may_87 : decode cX2_may 87 = .ok (.iload_n 1, 1) := dk_27 (dk_at dksX2_may_3 18 rfl rfl)
theorem dX2_may_88 : decode cX2_may 88 = .ok (.if_icmp .ne 46, 3) := dk_160 0 46 (dk_at dksX2_may_3 19 rfl rfl)
theorem dX2_may_91 : decode cX2_may 91 = .ok (.aload 5, 2) := dk_25 5 (dk_at dksX2_may_3 22 rfl rfl)
theorem dX2_may_93 : decode cX2_may 93 = .ok (.getfield 112, 3) := dk_180 0 112 (dk_at dksX2_may_4 0 rfl rfl)
theorem dX2_may_96 : decode cX2_may 96 = .ok (.aload_n 0, 1) := dk_42 (dk_at dksX2_may_4 3 rfl rfl)
theorem dX2_may_97 : decode cX2_may 97 = .ok (.getfield 48, 3) := dk_180 0 48 (dk_at dksX2_may_4 4 rfl rfl)
theorem dX2_may_100 : decode cX2_may 100 = .ok (.if_icmp .ge 23, 3) := dk_162 0 23 (dk_at dksX2_may_4 7 rfl rfl)
theorem dX2_may_103 : decode cX2_may 103 = .ok (.aload_n 0, 1) := dk_42 (dk_at dksX2_may_4 10 rfl rfl)
theorem dX2_may_104 : decode cX2_may 104 = .ok (.getfield 48, 3) := dk_180 0 48 (dk_at dksX2_may_4 11 rfl rfl)
theorem dX2_may_107 : decode cX2_may 107 = .ok (.aload 5, 2) := dk_25 5 (dk_at dksX2_may_4 14 rfl rfl)
theorem dX2_may_109 : decode cX2_may 109 = .ok (.getfield 112, 3) := dk_180 0 112 (dk_at dksX2_may_4 16 rfl rfl)
theorem dX2_may_112 : decode cX2_may 112 = .ok (.isub, 1) := dk_100 (dk_at dksX2_may_4 19 rfl rfl)
theorem dX2_may_113 : decode cX2_may 113 = .ok (.aload_n 0, 1) := dk_42 (dk_at dksX2_may_4 20 rfl rfl)
theorem dX2_may_114 : decode cX2_may 114 = .ok (.getfield 45, 3) := dk_180 0 45 (dk_at dksX2_may_4 21 rfl rfl)
theorem dX2_may_117 : decode cX2_may 117 = .ok (.if_icmp .gt 17, 3) := dk_163 0 17 (dk_at dksX2_may_5 0 rfl rfl)
theorem dX2_may_120 : decode cX2_may 120 = .ok (.goto 12, 3) := dk_167 0 12 (dk_at dksX2_may_5 3 rfl rfl)
theorem dX2_may_123 : decode cX2_may 123 = .ok (.aload 5, 2) := dk_25 5 (dk_at dksX2_may_5 6 rfl rfl)
theorem dX2_may_125 : decode cX2_may 125 = .ok (.getfield 113, 3) := dk_180 0 113 (dk_at dksX2_may_5 8 rfl rfl)
theorem dX2_may_128 : decode cX2_may 128 = .ok (.iload_n 3, 1) := dk_29 (dk_at dksX2_may_5 11 rfl rfl)
theorem dX2_may_129 : decode cX2_may 129 = .ok (.if_icmp .ne 5, 3) := dk_160 0 5 (dk_at dksX2_may_5 12 rfl rfl)
theorem dX2_may_132 : decode cX2_may 132 = .ok (.iconst 0, 1) := dk_3 (dk_at dksX2_may_5 15 rfl rfl)
theorem dX2_may_133 : decode cX2_may 133 = .ok (.ireturn, 1) := dk_172 (dk_at dksX2_may_5 16 rfl rfl)
theorem dX2_may_134 : decode cX2_may 134 = .ok (.iinc 4 1, 3) := dk_132 4 1 (dk_at dksX2_may_5 17 rfl rfl)
theorem dX2_may_137 : decode cX2_may 137 = .ok (.goto (-81), 3) := dk_167 255 175 (dk_at dksX2_may_5 20 rfl rfl)
theorem dX2_may_140 : decode cX2_may 140 = .ok (.iconst 1, 1) := dk_4 (dk_at dksX2_may_5 23 rfl rfl)
theorem dX2_may_141 : decode cX2_may 141 = .ok (.ireturn, 1) := dk_172 (dk_at dksX2_may_6 0 rfl rfl)
abbrev cX2_walks : ByteArray := prog_20_method_7_code
def yX2_walks : MethodName := ⟨RX2, "walks", "(IIIZI)I"⟩
def dkwX2_walks_4 : List UInt8 := [183, 0, 122, 182, 0, 78, 87, 21, 6, 172]
abbrev dktX2_walks_4 : List UInt8 := dkwX2_walks_4 ++ []
def dkwX2_walks_3 : List UInt8 := [42, 180, 0, 35, 187, 0, 87, 89, 42, 180, 0, 51, 42, 180, 0, 48, 27, 28, 29, 21, 4, 21, 6]
abbrev dktX2_walks_3 : List UInt8 := dkwX2_walks_3 ++ dktX2_walks_4
def dkwX2_walks_2 : List UInt8 := [180, 0, 106, 4, 96, 181, 0, 106, 132, 7, 1, 167, 255, 226, 42, 89, 180, 0, 51, 4, 96, 181, 0, 51]
abbrev dktX2_walks_2 : List UInt8 := dkwX2_walks_2 ++ dktX2_walks_3
def dkwX2_walks_1 : List UInt8 := [3, 54, 7, 21, 7, 29, 162, 0, 30, 42, 180, 0, 29, 21, 7, 182, 0, 68, 192, 0, 82, 89]
abbrev dktX2_walks_1 : List UInt8 := dkwX2_walks_1 ++ dktX2_walks_2
def dkwX2_walks_0 : List UInt8 := [21, 5, 42, 180, 0, 18, 28, 46, 184, 0, 116, 54, 6, 42, 180, 0, 18, 28, 92, 46, 21, 6, 100, 79]
abbrev dktX2_walks_0 : List UInt8 := dkwX2_walks_0 ++ dktX2_walks_1
theorem dksX2_walks_0 : cX2_walks.data.toList.drop 0 = dktX2_walks_0 := by decide +kernel
theorem dksX2_walks_1 : cX2_walks.data.toList.drop 24 = dktX2_walks_1 := dk_seg dksX2_walks_0 24 rfl rfl
theorem dksX2_walks_2 : cX2_walks.data.toList.drop 46 = dktX2_walks_2 := dk_seg dksX2_walks_1 22 rfl rfl
theorem dksX2_walks_3 : cX2_walks.data.toList.drop 70 = dktX2_walks_3 := dk_seg dksX2_walks_2 24 rfl rfl
theorem dksX2_walks_4 : cX2_walks.data.toList.drop 93 = dktX2_walks_4 := dk_seg dksX2_walks_3 23 rfl rfl
theorem dX2_walks_0 : decode cX2_walks 0 = .ok (.iload 5, 2) := dk_21 5 (dk_at dksX2_walks_0 0 rfl rfl)
theorem dX2_walks_2 : decode cX2_walks 2 = .ok (.aload_n 0, 1) := dk_42 (dk_at dksX2_walks_0 2 rfl rfl)
theorem dX2_walks_3 : decode cX2_walks 3 = .ok (.getfield 18, 3) := dk_180 0 18 (dk_at dksX2_walks_0 3 rfl rfl)
theorem dX2_walks_6 : decode cX2_walks 6 = .ok (.iload_n 2, 1) := dk_28 (dk_at dksX2_walks_0 6 rfl rfl)
theorem dX2_walks_7 : decode cX2_walks 7 = .ok (.iaload, 1) := dk_46 (dk_at dksX2_walks_0 7 rfl rfl)
theorem dX2_walks_8 : decode cX2_walks 8 = .ok (.invokestatic 116, 3) := dk_184 0 116 (dk_at dksX2_walks_0 8 rfl rfl)
theorem dX2_walks_11 : decode cX2_walks 11 = .ok (.istore 6, 2) := dk_54 6 (dk_at dksX2_walks_0 11 rfl rfl)
theorem dX2_walks_13 : decode cX2_walks 13 = .ok (.aload_n 0, 1) := dk_42 (dk_at dksX2_walks_0 13 rfl rfl)
theorem dX2_walks_14 : decode cX2_walks 14 = .ok (.getfield 18, 3) := dk_180 0 18 (dk_at dksX2_walks_0 14 rfl rfl)
theorem dX2_walks_17 : decode cX2_walks 17 = .ok (.iload_n 2, 1) := dk_28 (dk_at dksX2_walks_0 17 rfl rfl)
theorem dX2_walks_18 : decode cX2_walks 18 = .ok (.dup2, 1) := dk_92 (dk_at dksX2_walks_0 18 rfl rfl)
theorem dX2_walks_19 : decode cX2_walks 19 = .ok (.iaload, 1) := dk_46 (dk_at dksX2_walks_0 19 rfl rfl)
theorem dX2_walks_20 : decode cX2_walks 20 = .ok (.iload 6, 2) := dk_21 6 (dk_at dksX2_walks_0 20 rfl rfl)
theorem dX2_walks_22 : decode cX2_walks 22 = .ok (.isub, 1) := dk_100 (dk_at dksX2_walks_0 22 rfl rfl)
theorem dX2_walks_23 : decode cX2_walks 23 = .ok (.iastore, 1) := dk_79 (dk_at dksX2_walks_0 23 rfl rfl)
theorem dX2_walks_24 : decode cX2_walks 24 = .ok (.iconst 0, 1) := dk_3 (dk_at dksX2_walks_1 0 rfl rfl)
theorem dX2_walks_25 : decode cX2_walks 25 = .ok (.istore 7, 2) := dk_54 7 (dk_at dksX2_walks_1 1 rfl rfl)
theorem dX2_walks_27 : decode cX2_walks 27 = .ok (.iload 7, 2) := dk_21 7 (dk_at dksX2_walks_1 3 rfl rfl)
theorem dX2_walks_29 : decode cX2_walks 29 = .ok (.iload_n 3, 1) := dk_29 (dk_at dksX2_walks_1 5 rfl rfl)
theorem dX2_walks_30 : decode cX2_walks 30 = .ok (.if_icmp .ge 30, 3) := dk_162 0 30 (dk_at dksX2_walks_1 6 rfl rfl)
theorem dX2_walks_33 : decode cX2_walks 33 = .ok (.aload_n 0, 1) := dk_42 (dk_at dksX2_walks_1 9 rfl rfl)
theorem dX2_walks_34 : decode cX2_walks 34 = .ok (.getfield 29, 3) := dk_180 0 29 (dk_at dksX2_walks_1 10 rfl rfl)
theorem dX2_walks_37 : decode cX2_walks 37 = .ok (.iload 7, 2) := dk_21 7 (dk_at dksX2_walks_1 13 rfl rfl)
theorem dX2_walks_39 : decode cX2_walks 39 = .ok (.invokevirtual 68, 3) := dk_182 0 68 (dk_at dksX2_walks_1 15 rfl rfl)
theorem dX2_walks_42 : decode cX2_walks 42 = .ok (.checkcast 82, 3) := dk_192 0 82 (dk_at dksX2_walks_1 18 rfl rfl)
theorem dX2_walks_45 : decode cX2_walks 45 = .ok (.dup, 1) := dk_89 (dk_at dksX2_walks_1 21 rfl rfl)
theorem dX2_walks_46 : decode cX2_walks 46 = .ok (.getfield 106, 3) := dk_180 0 106 (dk_at dksX2_walks_2 0 rfl rfl)
theorem dX2_walks_49 : decode cX2_walks 49 = .ok (.iconst 1, 1) := dk_4 (dk_at dksX2_walks_2 3 rfl rfl)
theorem dX2_walks_50 : decode cX2_walks 50 = .ok (.iadd, 1) := dk_96 (dk_at dksX2_walks_2 4 rfl rfl)
theorem dX2_walks_51 : decode cX2_walks 51 = .ok (.putfield 106, 3) := dk_181 0 106 (dk_at dksX2_walks_2 5 rfl rfl)
theorem dX2_walks_54 : decode cX2_walks 54 = .ok (.iinc 7 1, 3) := dk_132 7 1 (dk_at dksX2_walks_2 8 rfl rfl)
theorem dX2_walks_57 : decode cX2_walks 57 = .ok (.goto (-30), 3) := dk_167 255 226 (dk_at dksX2_walks_2 11 rfl rfl)
theorem dX2_walks_60 : decode cX2_walks 60 = .ok (.aload_n 0, 1) := dk_42 (dk_at dksX2_walks_2 14 rfl rfl)
theorem dX2_walks_61 : decode cX2_walks 61 = .ok (.dup, 1) := dk_89 (dk_at dksX2_walks_2 15 rfl rfl)
theorem dX2_walks_62 : decode cX2_walks 62 = .ok (.getfield 51, 3) := dk_180 0 51 (dk_at dksX2_walks_2 16 rfl rfl)
theorem dX2_walks_65 : decode cX2_walks 65 = .ok (.iconst 1, 1) := dk_4 (dk_at dksX2_walks_2 19 rfl rfl)
theorem dX2_walks_66 : decode cX2_walks 66 = .ok (.iadd, 1) := dk_96 (dk_at dksX2_walks_2 20 rfl rfl)
theorem dX2_walks_67 : decode cX2_walks 67 = .ok (.putfield 51, 3) := dk_181 0 51 (dk_at dksX2_walks_2 21 rfl rfl)
theorem dX2_walks_70 : decode cX2_walks 70 = .ok (.aload_n 0, 1) := dk_42 (dk_at dksX2_walks_3 0 rfl rfl)
theorem dX2_walks_71 : decode cX2_walks 71 = .ok (.getfield 35, 3) := dk_180 0 35 (dk_at dksX2_walks_3 1 rfl rfl)
theorem dX2_walks_74 : decode cX2_walks 74 = .ok (.new 87, 3) := dk_187 0 87 (dk_at dksX2_walks_3 4 rfl rfl)
theorem dX2_walks_77 : decode cX2_walks 77 = .ok (.dup, 1) := dk_89 (dk_at dksX2_walks_3 7 rfl rfl)
theorem dX2_walks_78 : decode cX2_walks 78 = .ok (.aload_n 0, 1) := dk_42 (dk_at dksX2_walks_3 8 rfl rfl)
theorem dX2_walks_79 : decode cX2_walks 79 = .ok (.getfield 51, 3) := dk_180 0 51 (dk_at dksX2_walks_3 9 rfl rfl)
theorem dX2_walks_82 : decode cX2_walks 82 = .ok (.aload_n 0, 1) := dk_42 (dk_at dksX2_walks_3 12 rfl rfl)
theorem dX2_walks_83 : decode cX2_walks 83 = .ok (.getfield 48, 3) := dk_180 0 48 (dk_at dksX2_walks_3 13 rfl rfl)
theorem dX2_walks_86 : decode cX2_walks 86 = .ok (.iload_n 1, 1) := dk_27 (dk_at dksX2_walks_3 16 rfl rfl)
theorem dX2_walks_87 : decode cX2_walks 87 = .ok (.iload_n 2, 1) := dk_28 (dk_at dksX2_walks_3 17 rfl rfl)
theorem dX2_walks_88 : decode cX2_walks 88 = .ok (.iload_n 3, 1) := dk_29 (dk_at dksX2_walks_3 18 rfl rfl)
theorem dX2_walks_89 : decode cX2_walks 89 = .ok (.iload 4, 2) := dk_21 4 (dk_at dksX2_walks_3 19 rfl rfl)
theorem dX2_walks_91 : decode cX2_walks 91 = .ok (.iload 6, 2) := dk_21 6 (dk_at dksX2_walks_3 21 rfl rfl)
theorem dX2_walks_93 : decode cX2_walks 93 = .ok (.invokespecial 122, 3) := dk_183 0 122 (dk_at dksX2_walks_4 0 rfl rfl)
theorem dX2_walks_96 : decode cX2_walks 96 = .ok (.invokevirtual 78, 3) := dk_182 0 78 (dk_at dksX2_walks_4 3 rfl rfl)
theorem dX2_walks_99 : decode cX2_walks 99 = .ok (.pop, 1) := dk_87 (dk_at dksX2_walks_4 6 rfl rfl)
theorem dX2_walks_100 : decode cX2_walks 100 = .ok (.iload 6, 2) := dk_21 6 (dk_at dksX2_walks_4 7 rfl rfl)
theorem dX2_walks_102 : decode cX2_walks 102 = .ok (.ireturn, 1) := dk_172 (dk_at dksX2_walks_4 9 rfl rfl)
theorem q77 : (Jvm.Cond.initialized "StepDebts$World") ∈ lw_all := lw_g (lw_at lw_m1 2 rfl) rfl
theorem q132 : (Jvm.Cond.instantiable "StepDebts$World" (13 : Nat)) ∈ lw_all := lw_g (lw_at lw_m1 57 rfl) rfl
theorem q134 : (Jvm.Cond.instanceMethod ({ cls := "StepDebts$World", name := "<init>", desc := "()V" } : Jvm.MethodName)) ∈ lw_all := lw_g (lw_at lw_m1 59 rfl) rfl
theorem q135 : (Jvm.Cond.code ({ cls := "StepDebts$World", name := "<init>", desc := "()V" } : Jvm.MethodName) prog_20_method_1_code (1 : Nat) (Option.none : Option Jvm.ClassFile.FieldType)) ∈ lw_all := lw_g (lw_at lw_m1 60 rfl) rfl
theorem q136 : (Jvm.Cond.methodLink "StepDebts$World" (3 : Nat) ({ cls := "java/lang/Object", name := "<init>", desc := "()V" } : Jvm.MethodName)) ∈ lw_all := lw_g (lw_at lw_m1 61 rfl) rfl
theorem q137 : (Jvm.Cond.classLink "StepDebts$World" (22 : Nat) "java/util/ArrayList") ∈ lw_all := lw_g (lw_at lw_m1 62 rfl) rfl
theorem q139 : (Jvm.Cond.methodLink "StepDebts$World" (24 : Nat) ({ cls := "java/util/ArrayList", name := "<init>", desc := "()V" } : Jvm.MethodName)) ∈ lw_all := lw_g (lw_at lw_m1 64 rfl) rfl
theorem q164 : (Jvm.Cond.fieldLink "StepDebts$World" (39 : Nat) "StepDebts$World" "texts" "I") ∈ lw_all := lw_g (lw_at lw_m1 89 rfl) rfl
theorem q166 : (Jvm.Cond.fieldLink "StepDebts$World" (42 : Nat) "StepDebts$World" "houses" "I") ∈ lw_all := lw_g (lw_at lw_m1 91 rfl) rfl
theorem q168 : (Jvm.Cond.fieldLink "StepDebts$World" (9 : Nat) "StepDebts$World" "limit" "I") ∈ lw_all := lw_g (lw_at lw_m1 93 rfl) rfl
theorem q171 : (Jvm.Cond.fieldLink "StepDebts$World" (45 : Nat) "StepDebts$World" "rest" "I") ∈ lw_all := lw_g (lw_at lw_m1 96 rfl) rfl
theorem q173 : (Jvm.Cond.fieldLink "StepDebts$World" (48 : Nat) "StepDebts$World" "day" "I") ∈ lw_all := lw_g (lw_at lw_m1 98 rfl) rfl
theorem q175 : (Jvm.Cond.fieldLink "StepDebts$World" (15 : Nat) "StepDebts$World" "seed" "I") ∈ lw_all := lw_g (lw_at lw_m1 100 rfl) rfl
theorem q177 : (Jvm.Cond.fieldLink "StepDebts$World" (51 : Nat) "StepDebts$World" "serial" "I") ∈ lw_all := lw_g (lw_at lw_m1 102 rfl) rfl
theorem q179 : (Jvm.Cond.fieldLink "StepDebts$World" (18 : Nat) "StepDebts$World" "debt" "[I") ∈ lw_all := lw_g (lw_at lw_m1 104 rfl) rfl
theorem q181 : (Jvm.Cond.fieldLink "StepDebts$World" (25 : Nat) "StepDebts$World" "walkers" "Ljava/util/ArrayList;") ∈ lw_all := lw_g (lw_at lw_m1 106 rfl) rfl
theorem q184 : (Jvm.Cond.fieldLink "StepDebts$World" (29 : Nat) "StepDebts$World" "turns" "Ljava/util/ArrayList;") ∈ lw_all := lw_g (lw_at lw_m1 109 rfl) rfl
theorem q187 : (Jvm.Cond.fieldLink "StepDebts$World" (32 : Nat) "StepDebts$World" "offers" "Ljava/util/ArrayList;") ∈ lw_all := lw_g (lw_at lw_m1 112 rfl) rfl
theorem q189 : (Jvm.Cond.fieldLink "StepDebts$World" (35 : Nat) "StepDebts$World" "entries" "Ljava/util/ArrayList;") ∈ lw_all := lw_g (lw_at lw_m1 114 rfl) rfl
theorem q191 : (Jvm.Cond.fieldLink "StepDebts$World" (54 : Nat) "StepDebts$World" "law" "LStepDebts$Law;") ∈ lw_all := lw_g (lw_at lw_m1 116 rfl) rfl
theorem q193 : (Jvm.Cond.lays "StepDebts$World" "StepDebts$World" "texts" "I") ∈ lw_all := lw_g (lw_at lw_m1 118 rfl) rfl
theorem q194 : (Jvm.Cond.soleField "StepDebts$World" "texts") ∈ lw_all := lw_g (lw_at lw_m1 119 rfl) rfl
theorem q195 : (Jvm.Cond.lays "StepDebts$World" "StepDebts$World" "houses" "I") ∈ lw_all := lw_g (lw_at lw_m1 120 rfl) rfl
theorem q196 : (Jvm.Cond.soleField "StepDebts$World" "houses") ∈ lw_all := lw_g (lw_at lw_m1 121 rfl) rfl
theorem q197 : (Jvm.Cond.lays "StepDebts$World" "StepDebts$World" "limit" "I") ∈ lw_all := lw_g (lw_at lw_m1 122 rfl) rfl
theorem q198 : (Jvm.Cond.soleField "StepDebts$World" "limit") ∈ lw_all := lw_g (lw_at lw_m1 123 rfl) rfl
theorem q199 : (Jvm.Cond.lays "StepDebts$World" "StepDebts$World" "rest" "I") ∈ lw_all := lw_g (lw_at lw_m1 124 rfl) rfl
theorem q200 : (Jvm.Cond.soleField "StepDebts$World" "rest") ∈ lw_all := lw_g (lw_at lw_m1 125 rfl) rfl
theorem q201 : (Jvm.Cond.lays "StepDebts$World" "StepDebts$World" "day" "I") ∈ lw_all := lw_g (lw_at lw_m1 126 rfl) rfl
theorem q202 : (Jvm.Cond.soleField "StepDebts$World" "day") ∈ lw_all := lw_g (lw_at lw_m1 127 rfl) rfl
theorem q203 : (Jvm.Cond.lays "StepDebts$World" "StepDebts$World" "seed" "I") ∈ lw_all := lw_g (lw_at lw_m1 128 rfl) rfl
theorem q204 : (Jvm.Cond.soleField "StepDebts$World" "seed") ∈ lw_all := lw_g (lw_at lw_m1 129 rfl) rfl
theorem q205 : (Jvm.Cond.lays "StepDebts$World" "StepDebts$World" "serial" "I") ∈ lw_all := lw_g (lw_at lw_m1 130 rfl) rfl
theorem q206 : (Jvm.Cond.soleField "StepDebts$World" "serial") ∈ lw_all := lw_g (lw_at lw_m1 131 rfl) rfl
theorem q207 : (Jvm.Cond.laysFinal "StepDebts$World" "StepDebts$World" "debt" "[I") ∈ lw_all := lw_g (lw_at lw_m1 132 rfl) rfl
theorem q208 : (Jvm.Cond.soleField "StepDebts$World" "debt") ∈ lw_all := lw_g (lw_at lw_m1 133 rfl) rfl
theorem q209 : (Jvm.Cond.laysFinal "StepDebts$World" "StepDebts$World" "walkers" "Ljava/util/ArrayList;") ∈ lw_all := lw_g (lw_at lw_m1 134 rfl) rfl
theorem q210 : (Jvm.Cond.soleField "StepDebts$World" "walkers") ∈ lw_all := lw_g (lw_at lw_m1 135 rfl) rfl
theorem q211 : (Jvm.Cond.laysFinal "StepDebts$World" "StepDebts$World" "turns" "Ljava/util/ArrayList;") ∈ lw_all := lw_g (lw_at lw_m1 136 rfl) rfl
theorem q212 : (Jvm.Cond.soleField "StepDebts$World" "turns") ∈ lw_all := lw_g (lw_at lw_m1 137 rfl) rfl
theorem q213 : (Jvm.Cond.laysFinal "StepDebts$World" "StepDebts$World" "offers" "Ljava/util/ArrayList;") ∈ lw_all := lw_g (lw_at lw_m1 138 rfl) rfl
theorem q214 : (Jvm.Cond.soleField "StepDebts$World" "offers") ∈ lw_all := lw_g (lw_at lw_m1 139 rfl) rfl
theorem q215 : (Jvm.Cond.laysFinal "StepDebts$World" "StepDebts$World" "entries" "Ljava/util/ArrayList;") ∈ lw_all := lw_g (lw_at lw_m1 140 rfl) rfl
theorem q216 : (Jvm.Cond.soleField "StepDebts$World" "entries") ∈ lw_all := lw_g (lw_at lw_m1 141 rfl) rfl
theorem q217 : (Jvm.Cond.lays "StepDebts$World" "StepDebts$World" "law" "LStepDebts$Law;") ∈ lw_all := lw_g (lw_at lw_m1 142 rfl) rfl
theorem q218 : (Jvm.Cond.soleField "StepDebts$World" "law") ∈ lw_all := lw_g (lw_at lw_m1 143 rfl) rfl
theorem q219 : (Jvm.Cond.superclass "StepDebts$World" "java/lang/Object") ∈ lw_all := lw_g (lw_at lw_m1 144 rfl) rfl
theorem q406 : (Jvm.Cond.instanceMethod ({ cls := "StepDebts$World", name := "missed", desc := "(I)I" } : Jvm.MethodName)) ∈ lw_all := lw_g (lw_at lw_m2 91 rfl) rfl
theorem q407 : (Jvm.Cond.selects "StepDebts$World" ({ cls := "StepDebts$World", name := "missed", desc := "(I)I" } : Jvm.MethodName) ({ cls := "StepDebts$World", name := "missed", desc := "(I)I" } : Jvm.MethodName)) ∈ lw_all := lw_g (lw_at lw_m2 92 rfl) rfl
theorem q408 : (Jvm.Cond.code ({ cls := "StepDebts$World", name := "missed", desc := "(I)I" } : Jvm.MethodName) prog_20_method_8_code (6 : Nat) (Option.some Jvm.ClassFile.FieldType.int)) ∈ lw_all := lw_g (lw_at lw_m2 93 rfl) rfl
theorem q409 : (Jvm.Cond.methodLink "StepDebts$World" (68 : Nat) ({ cls := "java/util/ArrayList", name := "get", desc := "(I)Ljava/lang/Object;" } : Jvm.MethodName)) ∈ lw_all := lw_g (lw_at lw_m2 94 rfl) rfl
theorem q410 : (Jvm.Cond.classLink "StepDebts$World" (82 : Nat) "StepDebts$Turn") ∈ lw_all := lw_g (lw_at lw_m2 95 rfl) rfl
theorem q411 : (Jvm.Cond.methodLink "StepDebts$World" (64 : Nat) ({ cls := "java/util/ArrayList", name := "size", desc := "()I" } : Jvm.MethodName)) ∈ lw_all := lw_g (lw_at lw_m2 96 rfl) rfl
theorem q412 : (Jvm.Cond.classLink "StepDebts$World" (87 : Nat) "StepDebts$Entry") ∈ lw_all := lw_g (lw_at lw_m2 97 rfl) rfl
theorem q430 : (Jvm.Cond.instanceMethod ({ cls := "StepDebts$World", name := "copy", desc := "()LStepDebts$World;" } : Jvm.MethodName)) ∈ lw_all := lw_g (lw_at lw_m2 115 rfl) rfl
theorem q431 : (Jvm.Cond.selects "StepDebts$World" ({ cls := "StepDebts$World", name := "copy", desc := "()LStepDebts$World;" } : Jvm.MethodName) ({ cls := "StepDebts$World", name := "copy", desc := "()LStepDebts$World;" } : Jvm.MethodName)) ∈ lw_all := lw_g (lw_at lw_m2 116 rfl) rfl
theorem q432 : (Jvm.Cond.code ({ cls := "StepDebts$World", name := "copy", desc := "()LStepDebts$World;" } : Jvm.MethodName) prog_20_method_2_code (3 : Nat) (Option.some (Jvm.ClassFile.FieldType.object "StepDebts$World"))) ∈ lw_all := lw_g (lw_at lw_m2 117 rfl) rfl
theorem q433 : (Jvm.Cond.classLink "StepDebts$World" (10 : Nat) "StepDebts$World") ∈ lw_all := lw_g (lw_at lw_m2 118 rfl) rfl
theorem q434 : (Jvm.Cond.methodLink "StepDebts$World" (38 : Nat) ({ cls := "StepDebts$World", name := "<init>", desc := "()V" } : Jvm.MethodName)) ∈ lw_all := lw_g (lw_at lw_m2 119 rfl) rfl
theorem q435 : (Jvm.Cond.methodLink "StepDebts$World" (58 : Nat) ({ cls := "java/lang/System", name := "arraycopy", desc := "(Ljava/lang/Object;ILjava/lang/Object;II)V" } : Jvm.MethodName)) ∈ lw_all := lw_g (lw_at lw_m2 120 rfl) rfl
theorem q436 : (Jvm.Cond.classLink "StepDebts$World" (72 : Nat) "StepDebts$Walker") ∈ lw_all := lw_g (lw_at lw_m2 121 rfl) rfl
theorem q437 : (Jvm.Cond.methodLink "StepDebts$World" (74 : Nat) ({ cls := "StepDebts$Walker", name := "copy", desc := "()LStepDebts$Walker;" } : Jvm.MethodName)) ∈ lw_all := lw_g (lw_at lw_m2 122 rfl) rfl
theorem q465 : (Jvm.Cond.methodLink "StepDebts$World" (78 : Nat) ({ cls := "java/util/ArrayList", name := "add", desc := "(Ljava/lang/Object;)Z" } : Jvm.MethodName)) ∈ lw_all := lw_g (lw_at lw_m2 150 rfl) rfl
theorem q513 : (Jvm.Cond.selects "StepDebts$World" ({ cls := "java/lang/Object", name := "getClass", desc := "()Ljava/lang/Class;" } : Jvm.MethodName) ({ cls := "java/lang/Object", name := "getClass", desc := "()Ljava/lang/Class;" } : Jvm.MethodName)) ∈ lw_all := lw_g (lw_at lw_m2 198 rfl) rfl
theorem q539 : (Jvm.Cond.methodLink "StepDebts$World" (84 : Nat) ({ cls := "StepDebts$Turn", name := "copy", desc := "()LStepDebts$Turn;" } : Jvm.MethodName)) ∈ lw_all := lw_g (lw_at lw_m2 224 rfl) rfl
theorem q550 : (Jvm.Cond.fieldLinkNest "StepDebts$World" (103 : Nat) "StepDebts$Turn" "length" "I" "StepDebts") ∈ lw_tbl := lw_at lw_m2 235 rfl
theorem q553 : (Jvm.Cond.fieldLinkNest "StepDebts$World" (106 : Nat) "StepDebts$Turn" "wear" "I" "StepDebts") ∈ lw_tbl := lw_at lw_m2 238 rfl
theorem q556 : (Jvm.Cond.fieldLinkNest "StepDebts$World" (128 : Nat) "StepDebts$Turn" "mended" "I" "StepDebts") ∈ lw_tbl := lw_at lw_m3 1 rfl
theorem q565 : (Jvm.Cond.methodLink "StepDebts$World" (89 : Nat) ({ cls := "StepDebts$Entry", name := "copy", desc := "()LStepDebts$Entry;" } : Jvm.MethodName)) ∈ lw_all := lw_g (lw_at lw_m3 10 rfl) rfl
theorem q576 : (Jvm.Cond.fieldLinkNest "StepDebts$World" (127 : Nat) "StepDebts$Entry" "serial" "I" "StepDebts") ∈ lw_tbl := lw_at lw_m3 21 rfl
theorem q578 : (Jvm.Cond.fieldLinkNest "StepDebts$World" (112 : Nat) "StepDebts$Entry" "day" "I" "StepDebts") ∈ lw_tbl := lw_at lw_m3 23 rfl
theorem q581 : (Jvm.Cond.fieldLinkNest "StepDebts$World" (109 : Nat) "StepDebts$Entry" "walker" "I" "StepDebts") ∈ lw_tbl := lw_at lw_m3 26 rfl
theorem q584 : (Jvm.Cond.fieldLinkNest "StepDebts$World" (96 : Nat) "StepDebts$Entry" "house" "I" "StepDebts") ∈ lw_tbl := lw_at lw_m3 29 rfl
theorem q587 : (Jvm.Cond.fieldLinkNest "StepDebts$World" (125 : Nat) "StepDebts$Entry" "turns" "I" "StepDebts") ∈ lw_tbl := lw_at lw_m3 32 rfl
theorem q592 : (Jvm.Cond.fieldLinkNest "StepDebts$World" (113 : Nat) "StepDebts$Entry" "night" "Z" "StepDebts") ∈ lw_tbl := lw_at lw_m3 37 rfl
theorem q595 : (Jvm.Cond.fieldLinkNest "StepDebts$World" (99 : Nat) "StepDebts$Entry" "burnt" "Z" "StepDebts") ∈ lw_tbl := lw_at lw_m3 40 rfl
theorem q614 : (Jvm.Cond.methodLink "StepDebts$World" (92 : Nat) ({ cls := "java/util/ArrayList", name := "addAll", desc := "(Ljava/util/Collection;)Z" } : Jvm.MethodName)) ∈ lw_all := lw_g (lw_at lw_m3 59 rfl) rfl
theorem q637 : (Jvm.Cond.instanceMethod ({ cls := "StepDebts$World", name := "burnt", desc := "()I" } : Jvm.MethodName)) ∈ lw_all := lw_g (lw_at lw_m3 82 rfl) rfl
theorem q638 : (Jvm.Cond.selects "StepDebts$World" ({ cls := "StepDebts$World", name := "burnt", desc := "()I" } : Jvm.MethodName) ({ cls := "StepDebts$World", name := "burnt", desc := "()I" } : Jvm.MethodName)) ∈ lw_all := lw_g (lw_at lw_m3 83 rfl) rfl
theorem q639 : (Jvm.Cond.code ({ cls := "StepDebts$World", name := "burnt", desc := "()I" } : Jvm.MethodName) prog_20_method_4_code (3 : Nat) (Option.some Jvm.ClassFile.FieldType.int)) ∈ lw_all := lw_g (lw_at lw_m3 84 rfl) rfl
theorem q1447 : (Jvm.Cond.instanceMethod ({ cls := "StepDebts$World", name := "beads", desc := "(I)I" } : Jvm.MethodName)) ∈ lw_all := lw_g (lw_at lw_m6 172 rfl) rfl
theorem q1448 : (Jvm.Cond.selects "StepDebts$World" ({ cls := "StepDebts$World", name := "beads", desc := "(I)I" } : Jvm.MethodName) ({ cls := "StepDebts$World", name := "beads", desc := "(I)I" } : Jvm.MethodName)) ∈ lw_all := lw_g (lw_at lw_m6 173 rfl) rfl
theorem q1449 : (Jvm.Cond.code ({ cls := "StepDebts$World", name := "beads", desc := "(I)I" } : Jvm.MethodName) prog_20_method_3_code (4 : Nat) (Option.some Jvm.ClassFile.FieldType.int)) ∈ lw_all := lw_g (lw_at lw_m6 174 rfl) rfl
theorem q1494 : (Jvm.Cond.instanceMethod ({ cls := "StepDebts$World", name := "paces", desc := "(I)I" } : Jvm.MethodName)) ∈ lw_all := lw_g (lw_at lw_m6 219 rfl) rfl
theorem q1495 : (Jvm.Cond.selects "StepDebts$World" ({ cls := "StepDebts$World", name := "paces", desc := "(I)I" } : Jvm.MethodName) ({ cls := "StepDebts$World", name := "paces", desc := "(I)I" } : Jvm.MethodName)) ∈ lw_all := lw_g (lw_at lw_m6 220 rfl) rfl
theorem q1496 : (Jvm.Cond.code ({ cls := "StepDebts$World", name := "paces", desc := "(I)I" } : Jvm.MethodName) prog_20_method_5_code (4 : Nat) (Option.some Jvm.ClassFile.FieldType.int)) ∈ lw_all := lw_g (lw_at lw_m6 221 rfl) rfl
theorem q1580 : (Jvm.Cond.instanceMethod ({ cls := "StepDebts$World", name := "may", desc := "(IIZ)Z" } : Jvm.MethodName)) ∈ lw_all := lw_g (lw_at lw_m7 65 rfl) rfl
theorem q1581 : (Jvm.Cond.selects "StepDebts$World" ({ cls := "StepDebts$World", name := "may", desc := "(IIZ)Z" } : Jvm.MethodName) ({ cls := "StepDebts$World", name := "may", desc := "(IIZ)Z" } : Jvm.MethodName)) ∈ lw_all := lw_g (lw_at lw_m7 66 rfl) rfl
theorem q1582 : (Jvm.Cond.code ({ cls := "StepDebts$World", name := "may", desc := "(IIZ)Z" } : Jvm.MethodName) prog_20_method_6_code (6 : Nat) (Option.some Jvm.ClassFile.FieldType.boolean)) ∈ lw_all := lw_g (lw_at lw_m7 67 rfl) rfl
theorem q1602 : (Jvm.Cond.instanceMethod ({ cls := "StepDebts$World", name := "walks", desc := "(IIIZI)I" } : Jvm.MethodName)) ∈ lw_all := lw_g (lw_at lw_m7 87 rfl) rfl
theorem q1603 : (Jvm.Cond.selects "StepDebts$World" ({ cls := "StepDebts$World", name := "walks", desc := "(IIIZI)I" } : Jvm.MethodName) ({ cls := "StepDebts$World", name := "walks", desc := "(IIIZI)I" } : Jvm.MethodName)) ∈ lw_all := lw_g (lw_at lw_m7 88 rfl) rfl
theorem q1604 : (Jvm.Cond.code ({ cls := "StepDebts$World", name := "walks", desc := "(IIIZI)I" } : Jvm.MethodName) prog_20_method_7_code (8 : Nat) (Option.some Jvm.ClassFile.FieldType.int)) ∈ lw_all := lw_g (lw_at lw_m7 89 rfl) rfl
theorem q1605 : (Jvm.Cond.methodLink "StepDebts$World" (116 : Nat) ({ cls := "java/lang/Math", name := "min", desc := "(II)I" } : Jvm.MethodName)) ∈ lw_all := lw_g (lw_at lw_m7 90 rfl) rfl
theorem q1606 : (Jvm.Cond.methodLink "StepDebts$World" (122 : Nat) ({ cls := "StepDebts$Entry", name := "<init>", desc := "(IIIIIZI)V" } : Jvm.MethodName)) ∈ lw_all := lw_g (lw_at lw_m7 91 rfl) rfl
theorem q2175 : (Jvm.Cond.castable "StepDebts$World" "java/lang/Object") ∈ lw_tbl := lw_at lw_m9 180 rfl
theorem in_X2 : ∀ w ∈ wsX20, w ∈ lw_all := lw_in wsX20 [193, 195, 197, 199, 201, 203, 205, 207, 209, 211, 213, 215, 217] (by decide +kernel) (by decide +kernel)
/-! StepDebts$Reader -/
set_option maxRecDepth 100000
def RX3 : String := "StepDebts$Reader"
def TX3 : u_T := fun k => match k with
  | 0 => ("StepDebts$Reader", "tape", "[B", true)
  | 1 => ("StepDebts$Reader", "length", "I", false)
  | 2 => ("StepDebts$Reader", "end", "I", false)
  | 3 => ("StepDebts$Reader", "at", "I", false)
  | 4 => ("StepDebts$Reader", "begin", "I", false)
  | 5 => ("StepDebts$Reader", "fault", "I", false)
  | _ => ("StepDebts$Reader", "deep", "I", false)
def tyX3 : Nat → FieldType := fun k => match k with
  | 0 => .array .byte
  | 1 => .int
  | 2 => .int
  | 3 => .int
  | 4 => .int
  | 5 => .int
  | _ => .int
abbrev wsX30 : List Cond := u_ws RX3 TX3 7
theorem nmX3 : ∀ a, a < 7 → ∀ b, b < 7 → a ≠ b → (TX3 a).2.1 ≠ (TX3 b).2.1 := by decide +kernel
theorem tyX3_ok : ∀ k, k < 7 → parseFieldDescriptor (TX3 k).2.2.1 = some (tyX3 k) := by decide +kernel
abbrev cX3_init : ByteArray := prog_13_method_1_code
def yX3_init : MethodName := ⟨RX3, "<init>", "()V"⟩
def dkwX3_init_0 : List UInt8 := [42, 183, 0, 3, 42, 17, 1, 144, 188, 8, 181, 0, 9, 42, 2, 181, 0, 15, 177]
abbrev dktX3_init_0 : List UInt8 := dkwX3_init_0 ++ []
theorem dksX3_init_0 : cX3_init.data.toList.drop 0 = dktX3_init_0 := by decide +kernel
theorem dX3_init_0 : decode cX3_init 0 = .ok (.aload_n 0, 1) := dk_42 (dk_at dksX3_init_0 0 rfl rfl)
theorem dX3_init_1 : decode cX3_init 1 = .ok (.invokespecial 3, 3) := dk_183 0 3 (dk_at dksX3_init_0 1 rfl rfl)
theorem dX3_init_4 : decode cX3_init 4 = .ok (.aload_n 0, 1) := dk_42 (dk_at dksX3_init_0 4 rfl rfl)
theorem dX3_init_5 : decode cX3_init 5 = .ok (.sipush 400, 3) := dk_17 1 144 (dk_at dksX3_init_0 5 rfl rfl)
theorem dX3_init_8 : decode cX3_init 8 = .ok (.newarray .byte, 2) := dk_188_8 (dk_at dksX3_init_0 8 rfl rfl)
theorem dX3_init_10 : decode cX3_init 10 = .ok (.putfield 9, 3) := dk_181 0 9 (dk_at dksX3_init_0 10 rfl rfl)
theorem dX3_init_13 : decode cX3_init 13 = .ok (.aload_n 0, 1) := dk_42 (dk_at dksX3_init_0 13 rfl rfl)
theorem dX3_init_14 : decode cX3_init 14 = .ok (.iconst (-1), 1) := dk_2 (dk_at dksX3_init_0 14 rfl rfl)
theorem dX3_init_15 : decode cX3_init 15 = .ok (.putfield 15, 3) := dk_181 0 15 (dk_at dksX3_init_0 15 rfl rfl)
theorem dX3_init_18 : decode cX3_init 18 = .ok (.return_, 1) := dk_177 (dk_at dksX3_init_0 18 rfl rfl)
abbrev cX3_add : ByteArray := prog_13_method_2_code
def yX3_add : MethodName := ⟨RX3, "add", "([I)I"⟩
def dkwX3_add_3 : List UInt8 := [132, 6, 248, 167, 255, 223, 132, 4, 1, 167, 255, 201, 42, 180, 0, 19, 172]
abbrev dktX3_add_3 : List UInt8 := dkwX3_add_3 ++ []
def dkwX3_add_2 : List UInt8 := [180, 0, 9, 42, 180, 0, 19, 21, 5, 21, 6, 122, 145, 84, 42, 89, 180, 0, 19, 4, 96, 181, 0, 19]
abbrev dktX3_add_2 : List UInt8 := dkwX3_add_2 ++ dktX3_add_3
def dkwX3_add_1 : List UInt8 := [21, 4, 29, 162, 0, 55, 44, 21, 4, 46, 54, 5, 16, 24, 54, 6, 21, 6, 155, 0, 34, 42]
abbrev dktX3_add_1 : List UInt8 := dkwX3_add_1 ++ dktX3_add_2
def dkwX3_add_0 : List UInt8 := [42, 180, 0, 19, 16, 20, 96, 17, 1, 144, 164, 0, 5, 2, 172, 43, 77, 44, 190, 62, 3, 54, 4]
abbrev dktX3_add_0 : List UInt8 := dkwX3_add_0 ++ dktX3_add_1
theorem dksX3_add_0 : cX3_add.data.toList.drop 0 = dktX3_add_0 := by decide +kernel
theorem dksX3_add_1 : cX3_add.data.toList.drop 23 = dktX3_add_1 := dk_seg dksX3_add_0 23 rfl rfl
theorem dksX3_add_2 : cX3_add.data.toList.drop 45 = dktX3_add_2 := dk_seg dksX3_add_1 22 rfl rfl
theorem dksX3_add_3 : cX3_add.data.toList.drop 69 = dktX3_add_3 := dk_seg dksX3_add_2 24 rfl rfl
theorem dX3_add_0 : decode cX3_add 0 = .ok (.aload_n 0, 1) := dk_42 (dk_at dksX3_add_0 0 rfl rfl)
theorem dX3_add_1 : decode cX3_add 1 = .ok (.getfield 19, 3) := dk_180 0 19 (dk_at dksX3_add_0 1 rfl rfl)
theorem dX3_add_4 : decode cX3_add 4 = .ok (.bipush 20, 2) := dk_16 20 (dk_at dksX3_add_0 4 rfl rfl)
theorem dX3_add_6 : decode cX3_add 6 = .ok (.iadd, 1) := dk_96 (dk_at dksX3_add_0 6 rfl rfl)
theorem dX3_add_7 : decode cX3_add 7 = .ok (.sipush 400, 3) := dk_17 1 144 (dk_at dksX3_add_0 7 rfl rfl)
theorem dX3_add_10 : decode cX3_add 10 = .ok (.if_icmp .le 5, 3) := dk_164 0 5 (dk_at dksX3_add_0 10 rfl rfl)
theorem dX3_add_13 : decode cX3_add 13 = .ok (.iconst (-1), 1) := dk_2 (dk_at dksX3_add_0 13 rfl rfl)
theorem dX3_add_14 : decode cX3_add 14 = .ok (.ireturn, 1) := dk_172 (dk_at dksX3_add_0 14 rfl rfl)
theorem dX3_add_15 : decode cX3_add 15 = .ok (.aload_n 1, 1) := dk_43 (dk_at dksX3_add_0 15 rfl rfl)
theorem dX3_add_16 : decode cX3_add 16 = .ok (.astore_n 2, 1) := dk_77 (dk_at dksX3_add_0 16 rfl rfl)
theorem dX3_add_17 : decode cX3_add 17 = .ok (.aload_n 2, 1) := dk_44 (dk_at dksX3_add_0 17 rfl rfl)
theorem dX3_add_18 : decode cX3_add 18 = .ok (.arraylength, 1) := dk_190 (dk_at dksX3_add_0 18 rfl rfl)
theorem dX3_add_19 : decode cX3_add 19 = .ok (.istore_n 3, 1) := dk_62 (dk_at dksX3_add_0 19 rfl rfl)
theorem dX3_add_20 : decode cX3_add 20 = .ok (.iconst 0, 1) := dk_3 (dk_at dksX3_add_0 20 rfl rfl)
theorem dX3_add_21 : decode cX3_add 21 = .ok (.istore 4, 2) := dk_54 4 (dk_at dksX3_add_0 21 rfl rfl)
theorem dX3_add_23 : decode cX3_add 23 = .ok (.iload 4, 2) := dk_21 4 (dk_at dksX3_add_1 0 rfl rfl)
theorem dX3_add_25 : decode cX3_add 25 = .ok (.iload_n 3, 1) := dk_29 (dk_at dksX3_add_1 2 rfl rfl)
theorem dX3_add_26 : decode cX3_add 26 = .ok (.if_icmp .ge 55, 3) := dk_162 0 55 (dk_at dksX3_add_1 3 rfl rfl)
theorem dX3_add_29 : decode cX3_add 29 = .ok (.aload_n 2, 1) := dk_44 (dk_at dksX3_add_1 6 rfl rfl)
theorem dX3_add_30 : decode cX3_add 30 = .ok (.iload 4, 2) := dk_21 4 (dk_at dksX3_add_1 7 rfl rfl)
theorem dX3_add_32 : decode cX3_add 32 = .ok (.iaload, 1) := dk_46 (dk_at dksX3_add_1 9 rfl rfl)
theorem dX3_add_33 : decode cX3_add 33 = .ok (.istore 5, 2) := dk_54 5 (dk_at dksX3_add_1 10 rfl rfl)
theorem dX3_add_35 : decode cX3_add 35 = .ok (.bipush 24, 2) := dk_16 24 (dk_at dksX3_add_1 12 rfl rfl)
theorem dX3_add_37 : decode cX3_add 37 = .ok (.istore 6, 2) := dk_54 6 (dk_at dksX3_add_1 14 rfl rfl)
theorem dX3_add_39 : decode cX3_add 39 = .ok (.iload 6, 2) := dk_21 6 (dk_at dksX3_add_1 16 rfl rfl)
theorem dX3_add_41 : decode cX3_add 41 = .ok (.ifCond .lt 34, 3) := dk_155 0 34 (dk_at dksX3_add_1 18 rfl rfl)
theorem dX3_add_44 : decode cX3_add 44 = .ok (.aload_n 0, 1) := dk_42 (dk_at dksX3_add_1 21 rfl rfl)
theorem dX3_add_45 : decode cX3_add 45 = .ok (.getfield 9, 3) := dk_180 0 9 (dk_at dksX3_add_2 0 rfl rfl)
theorem dX3_add_48 : decode cX3_add 48 = .ok (.aload_n 0, 1) := dk_42 (dk_at dksX3_add_2 3 rfl rfl)
theorem dX3_add_49 : decode cX3_add 49 = .ok (.getfield 19, 3) := dk_180 0 19 (dk_at dksX3_add_2 4 rfl rfl)
theorem dX3_add_52 : decode cX3_add 52 = .ok (.iload 5, 2) := dk_21 5 (dk_at dksX3_add_2 7 rfl rfl)
theorem dX3_add_54 : decode cX3_add 54 = .ok (.iload 6, 2) := dk_21 6 (dk_at dksX3_add_2 9 rfl rfl)
theorem dX3_add_56 : decode cX3_add 56 = .ok (.ishr, 1) := dk_122 (dk_at dksX3_add_2 11 rfl rfl)
theorem dX3_add_57 : decode cX3_add 57 = .ok (.i2b, 1) := dk_145 (dk_at dksX3_add_2 12 rfl rfl)
theorem dX3_add_58 : decode cX3_add 58 = .ok (.bastore, 1) := dk_84 (dk_at dksX3_add_2 13 rfl rfl)
theorem dX3_add_59 : decode cX3_add 59 = .ok (.aload_n 0, 1) := dk_42 (dk_at dksX3_add_2 14 rfl rfl)
theorem dX3_add_60 : decode cX3_add 60 = .ok (.dup, 1) := dk_89 (dk_at dksX3_add_2 15 rfl rfl)
theorem dX3_add_61 : decode cX3_add 61 = .ok (.getfield 19, 3) := dk_180 0 19 (dk_at dksX3_add_2 16 rfl rfl)
theorem dX3_add_64 : decode cX3_add 64 = .ok (.iconst 1, 1) := dk_4 (dk_at dksX3_add_2 19 rfl rfl)
theorem dX3_add_65 : decode cX3_add 65 = .ok (.iadd, 1) := dk_96 (dk_at dksX3_add_2 20 rfl rfl)
theorem dX3_add_66 : decode cX3_add 66 = .ok (.putfield 19, 3) := dk_181 0 19 (dk_at dksX3_add_2 21 rfl rfl)
theorem dX3_add_69 : decode cX3_add 69 = .ok (.iinc 6 (-8), 3) := dk_132 6 248 (dk_at dksX3_add_3 0 rfl rfl)
theorem dX3_add_72 : decode cX3_add 72 = .ok (.goto (-33), 3) := dk_167 255 223 (dk_at dksX3_add_3 3 rfl rfl)
theorem dX3_add_75 : decode cX3_add 75 = .ok (.iinc 4 1, 3) := dk_132 4 1 (dk_at dksX3_add_3 6 rfl rfl)
theorem dX3_add_78 : decode cX3_add 78 = .ok (.goto (-55), 3) := dk_167 255 201 (dk_at dksX3_add_3 9 rfl rfl)
theorem dX3_add_81 : decode cX3_add 81 = .ok (.aload_n 0, 1) := dk_42 (dk_at dksX3_add_3 12 rfl rfl)
theorem dX3_add_82 : decode cX3_add 82 = .ok (.getfield 19, 3) := dk_180 0 19 (dk_at dksX3_add_3 13 rfl rfl)
theorem dX3_add_85 : decode cX3_add 85 = .ok (.ireturn, 1) := dk_172 (dk_at dksX3_add_3 16 rfl rfl)
abbrev cX3_cut : ByteArray := prog_13_method_3_code
def yX3_cut : MethodName := ⟨RX3, "cut", "(I)Z"⟩
def dkwX3_cut_0 : List UInt8 := [27, 155, 0, 11, 27, 42, 180, 0, 19, 164, 0, 5, 3, 172, 42, 27, 181, 0, 19, 4, 172]
abbrev dktX3_cut_0 : List UInt8 := dkwX3_cut_0 ++ []
theorem dksX3_cut_0 : cX3_cut.data.toList.drop 0 = dktX3_cut_0 := by decide +kernel
theorem dX3_cut_0 : decode cX3_cut 0 = .ok (.iload_n 1, 1) := dk_27 (dk_at dksX3_cut_0 0 rfl rfl)
theorem dX3_cut_1 : decode cX3_cut 1 = .ok (.ifCond .lt 11, 3) := dk_155 0 11 (dk_at dksX3_cut_0 1 rfl rfl)
theorem dX3_cut_4 : decode cX3_cut 4 = .ok (.iload_n 1, 1) := dk_27 (dk_at dksX3_cut_0 4 rfl rfl)
theorem dX3_cut_5 : decode cX3_cut 5 = .ok (.aload_n 0, 1) := dk_42 (dk_at dksX3_cut_0 5 rfl rfl)
theorem dX3_cut_6 : decode cX3_cut 6 = .ok (.getfield 19, 3) := dk_180 0 19 (dk_at dksX3_cut_0 6 rfl rfl)
theorem dX3_cut_9 : decode cX3_cut 9 = .ok (.if_icmp .le 5, 3) := dk_164 0 5 (dk_at dksX3_cut_0 9 rfl rfl)
theorem dX3_cut_12 : decode cX3_cut 12 = .ok (.iconst 0, 1) := dk_3 (dk_at dksX3_cut_0 12 rfl rfl)
theorem dX3_cut_13 : decode cX3_cut 13 = .ok (.ireturn, 1) := dk_172 (dk_at dksX3_cut_0 13 rfl rfl)
theorem dX3_cut_14 : decode cX3_cut 14 = .ok (.aload_n 0, 1) := dk_42 (dk_at dksX3_cut_0 14 rfl rfl)
theorem dX3_cut_15 : decode cX3_cut 15 = .ok (.iload_n 1, 1) := dk_27 (dk_at dksX3_cut_0 15 rfl rfl)
theorem dX3_cut_16 : decode cX3_cut 16 = .ok (.putfield 19, 3) := dk_181 0 19 (dk_at dksX3_cut_0 16 rfl rfl)
theorem dX3_cut_19 : decode cX3_cut 19 = .ok (.iconst 1, 1) := dk_4 (dk_at dksX3_cut_0 19 rfl rfl)
theorem dX3_cut_20 : decode cX3_cut 20 = .ok (.ireturn, 1) := dk_172 (dk_at dksX3_cut_0 20 rfl rfl)
abbrev cX3_begins : ByteArray := prog_13_method_4_code
def yX3_begins : MethodName := ⟨RX3, "begins", "()V"⟩
def dkwX3_begins_0 : List UInt8 := [42, 42, 180, 0, 19, 181, 0, 22, 42, 3, 181, 0, 19, 42, 3, 181, 0, 25, 42, 3, 181, 0, 28, 177]
abbrev dktX3_begins_0 : List UInt8 := dkwX3_begins_0 ++ []
theorem dksX3_begins_0 : cX3_begins.data.toList.drop 0 = dktX3_begins_0 := by decide +kernel
theorem dX3_begins_0 : decode cX3_begins 0 = .ok (.aload_n 0, 1) := dk_42 (dk_at dksX3_begins_0 0 rfl rfl)
theorem dX3_begins_1 : decode cX3_begins 1 = .ok (.aload_n 0, 1) := dk_42 (dk_at dksX3_begins_0 1 rfl rfl)
theorem dX3_begins_2 : decode cX3_begins 2 = .ok (.getfield 19, 3) := dk_180 0 19 (dk_at dksX3_begins_0 2 rfl rfl)
theorem dX3_begins_5 : decode cX3_begins 5 = .ok (.putfield 22, 3) := dk_181 0 22 (dk_at dksX3_begins_0 5 rfl rfl)
theorem dX3_begins_8 : decode cX3_begins 8 = .ok (.aload_n 0, 1) := dk_42 (dk_at dksX3_begins_0 8 rfl rfl)
theorem dX3_begins_9 : decode cX3_begins 9 = .ok (.iconst 0, 1) := dk_3 (dk_at dksX3_begins_0 9 rfl rfl)
theorem dX3_begins_10 : decode cX3_begins 10 = .ok (.putfield 19, 3) := dk_181 0 19 (dk_at dksX3_begins_0 10 rfl rfl)
theorem dX3_begins_13 : decode cX3_begins 13 = .ok (.aload_n 0, 1) := dk_42 (dk_at dksX3_begins_0 13 rfl rfl)
theorem dX3_begins_14 : decode cX3_begins 14 = .ok (.iconst 0, 1) := dk_3 (dk_at dksX3_begins_0 14 rfl rfl)
theorem dX3_begins_15 : decode cX3_begins 15 = .ok (.putfield 25, 3) := dk_181 0 25 (dk_at dksX3_begins_0 15 rfl rfl)
theorem dX3_begins_18 : decode cX3_begins 18 = .ok (.aload_n 0, 1) := dk_42 (dk_at dksX3_begins_0 18 rfl rfl)
theorem dX3_begins_19 : decode cX3_begins 19 = .ok (.iconst 0, 1) := dk_3 (dk_at dksX3_begins_0 19 rfl rfl)
theorem dX3_begins_20 : decode cX3_begins 20 = .ok (.putfield 28, 3) := dk_181 0 28 (dk_at dksX3_begins_0 20 rfl rfl)
theorem dX3_begins_23 : decode cX3_begins 23 = .ok (.return_, 1) := dk_177 (dk_at dksX3_begins_0 23 rfl rfl)
abbrev cX3_isOver : ByteArray := prog_13_method_7_code
def yX3_isOver : MethodName := ⟨RX3, "isOver", "()Z"⟩
def dkwX3_isOver_0 : List UInt8 := [42, 182, 0, 38, 42, 180, 0, 25, 42, 180, 0, 22, 160, 0, 7, 4, 167, 0, 4, 3, 172]
abbrev dktX3_isOver_0 : List UInt8 := dkwX3_isOver_0 ++ []
theorem dksX3_isOver_0 : cX3_isOver.data.toList.drop 0 = dktX3_isOver_0 := by decide +kernel
theorem dX3_isOver_0 : decode cX3_isOver 0 = .ok (.aload_n 0, 1) := dk_42 (dk_at dksX3_isOver_0 0 rfl rfl)
theorem dX3_isOver_1 : decode cX3_isOver 1 = .ok (.invokevirtual 38, 3) := dk_182 0 38 (dk_at dksX3_isOver_0 1 rfl rfl)
theorem dX3_isOver_4 : decode cX3_isOver 4 = .ok (.aload_n 0, 1) := dk_42 (dk_at dksX3_isOver_0 4 rfl rfl)
theorem dX3_isOver_5 : decode cX3_isOver 5 = .ok (.getfield 25, 3) := dk_180 0 25 (dk_at dksX3_isOver_0 5 rfl rfl)
theorem dX3_isOver_8 : decode cX3_isOver 8 = .ok (.aload_n 0, 1) := dk_42 (dk_at dksX3_isOver_0 8 rfl rfl)
theorem dX3_isOver_9 : decode cX3_isOver 9 = .ok (.getfield 22, 3) := dk_180 0 22 (dk_at dksX3_isOver_0 9 rfl rfl)
theorem dX3_isOver_12 : decode cX3_isOver 12 = .ok (.if_icmp .ne 7, 3) := dk_160 0 7 (dk_at dksX3_isOver_0 12 rfl rfl)
theorem dX3_isOver_15 : decode cX3_isOver 15 = .ok (.iconst 1, 1) := dk_4 (dk_at dksX3_isOver_0 15 rfl rfl)
theorem dX3_isOver_16 : decode cX3_isOver 16 = .ok (.goto 4, 3) := dk_167 0 4 (dk_at dksX3_isOver_0 16 rfl rfl)
theorem dX3_isOver_19 : decode cX3_isOver 19 = .ok (.iconst 0, 1) := dk_3 (dk_at dksX3_isOver_0 19 rfl rfl)
theorem dX3_isOver_20 : decode cX3_isOver 20 = .ok (.ireturn, 1) := dk_172 (dk_at dksX3_isOver_0 20 rfl rfl)
abbrev cX3_blanks : ByteArray := prog_13_method_6_code
def yX3_blanks : MethodName := ⟨RX3, "blanks", "()V"⟩
def dkwX3_blanks_1 : List UInt8 := [167, 255, 233, 42, 42, 180, 0, 25, 181, 0, 35, 177]
abbrev dktX3_blanks_1 : List UInt8 := dkwX3_blanks_1 ++ []
def dkwX3_blanks_0 : List UInt8 := [42, 42, 180, 0, 25, 182, 0, 31, 16, 32, 160, 0, 16, 42, 89, 180, 0, 25, 4, 96, 181, 0, 25]
abbrev dktX3_blanks_0 : List UInt8 := dkwX3_blanks_0 ++ dktX3_blanks_1
theorem dksX3_blanks_0 : cX3_blanks.data.toList.drop 0 = dktX3_blanks_0 := by decide +kernel
theorem dksX3_blanks_1 : cX3_blanks.data.toList.drop 23 = dktX3_blanks_1 := dk_seg dksX3_blanks_0 23 rfl rfl
theorem dX3_blanks_0 : decode cX3_blanks 0 = .ok (.aload_n 0, 1) := dk_42 (dk_at dksX3_blanks_0 0 rfl rfl)
theorem dX3_blanks_1 : decode cX3_blanks 1 = .ok (.aload_n 0, 1) := dk_42 (dk_at dksX3_blanks_0 1 rfl rfl)
theorem dX3_blanks_2 : decode cX3_blanks 2 = .ok (.getfield 25, 3) := dk_180 0 25 (dk_at dksX3_blanks_0 2 rfl rfl)
theorem dX3_blanks_5 : decode cX3_blanks 5 = .ok (.invokevirtual 31, 3) := dk_182 0 31 (dk_at dksX3_blanks_0 5 rfl rfl)
theorem dX3_blanks_8 : decode cX3_blanks 8 = .ok (.bipush 32, 2) := dk_16 32 (dk_at dksX3_blanks_0 8 rfl rfl)
theorem dX3_blanks_10 : decode cX3_blanks 10 = .ok (.if_icmp .ne 16, 3) := dk_160 0 16 (dk_at dksX3_blanks_0 10 rfl rfl)
theorem dX3_blanks_13 : decode cX3_blanks 13 = .ok (.aload_n 0, 1) := dk_42 (dk_at dksX3_blanks_0 13 rfl rfl)
theorem dX3_blanks_14 : decode cX3_blanks 14 = .ok (.dup, 1) := dk_89 (dk_at dksX3_blanks_0 14 rfl rfl)
theorem dX3_blanks_15 : decode cX3_blanks 15 = .ok (.getfield 25, 3) := dk_180 0 25 (dk_at dksX3_blanks_0 15 rfl rfl)
theorem dX3_blanks_18 : decode cX3_blanks 18 = .ok (.iconst 1, 1) := dk_4 (dk_at dksX3_blanks_0 18 rfl rfl)
theorem dX3_blanks_19 : decode cX3_blanks 19 = .ok (.iadd, 1) := dk_96 (dk_at dksX3_blanks_0 19 rfl rfl)
theorem dX3_blanks_20 : decode cX3_blanks 20 = .ok (.putfield 25, 3) := dk_181 0 25 (dk_at dksX3_blanks_0 20 rfl rfl)
theorem dX3_blanks_23 : decode cX3_blanks 23 = .ok (.goto (-23), 3) := dk_167 255 233 (dk_at dksX3_blanks_1 0 rfl rfl)
theorem dX3_blanks_26 : decode cX3_blanks 26 = .ok (.aload_n 0, 1) := dk_42 (dk_at dksX3_blanks_1 3 rfl rfl)
theorem dX3_blanks_27 : decode cX3_blanks 27 = .ok (.aload_n 0, 1) := dk_42 (dk_at dksX3_blanks_1 4 rfl rfl)
theorem dX3_blanks_28 : decode cX3_blanks 28 = .ok (.getfield 25, 3) := dk_180 0 25 (dk_at dksX3_blanks_1 5 rfl rfl)
theorem dX3_blanks_31 : decode cX3_blanks 31 = .ok (.putfield 35, 3) := dk_181 0 35 (dk_at dksX3_blanks_1 8 rfl rfl)
theorem dX3_blanks_34 : decode cX3_blanks 34 = .ok (.return_, 1) := dk_177 (dk_at dksX3_blanks_1 11 rfl rfl)
abbrev cX3_byteAt : ByteArray := prog_13_method_5_code
def yX3_byteAt : MethodName := ⟨RX3, "byteAt", "(I)I"⟩
def dkwX3_byteAt_0 : List UInt8 := [27, 42, 180, 0, 22, 162, 0, 12, 42, 180, 0, 9, 27, 51, 167, 0, 4, 2, 172]
abbrev dktX3_byteAt_0 : List UInt8 := dkwX3_byteAt_0 ++ []
theorem dksX3_byteAt_0 : cX3_byteAt.data.toList.drop 0 = dktX3_byteAt_0 := by decide +kernel
theorem dX3_byteAt_0 : decode cX3_byteAt 0 = .ok (.iload_n 1, 1) := dk_27 (dk_at dksX3_byteAt_0 0 rfl rfl)
theorem dX3_byteAt_1 : decode cX3_byteAt 1 = .ok (.aload_n 0, 1) := dk_42 (dk_at dksX3_byteAt_0 1 rfl rfl)
theorem dX3_byteAt_2 : decode cX3_byteAt 2 = .ok (.getfield 22, 3) := dk_180 0 22 (dk_at dksX3_byteAt_0 2 rfl rfl)
theorem dX3_byteAt_5 : decode cX3_byteAt 5 = .ok (.if_icmp .ge 12, 3) := dk_162 0 12 (dk_at dksX3_byteAt_0 5 rfl rfl)
theorem dX3_byteAt_8 : decode cX3_byteAt 8 = .ok (.aload_n 0, 1) := dk_42 (dk_at dksX3_byteAt_0 8 rfl rfl)
theorem dX3_byteAt_9 : decode cX3_byteAt 9 = .ok (.getfield 9, 3) := dk_180 0 9 (dk_at dksX3_byteAt_0 9 rfl rfl)
theorem dX3_byteAt_12 : decode cX3_byteAt 12 = .ok (.iload_n 1, 1) := dk_27 (dk_at dksX3_byteAt_0 12 rfl rfl)
theorem dX3_byteAt_13 : decode cX3_byteAt 13 = .ok (.baload, 1) := dk_51 (dk_at dksX3_byteAt_0 13 rfl rfl)
theorem dX3_byteAt_14 : decode cX3_byteAt 14 = .ok (.goto 4, 3) := dk_167 0 4 (dk_at dksX3_byteAt_0 14 rfl rfl)
theorem dX3_byteAt_17 : decode cX3_byteAt 17 = .ok (.iconst (-1), 1) := dk_2 (dk_at dksX3_byteAt_0 17 rfl rfl)
theorem dX3_byteAt_18 : decode cX3_byteAt 18 = .ok (.ireturn, 1) := dk_172 (dk_at dksX3_byteAt_0 18 rfl rfl)
abbrev cX3_word : ByteArray := prog_13_method_8_code
def yX3_word : MethodName := ⟨RX3, "word", "()Ljava/lang/String;"⟩
def dkwX3_word_3 : List UInt8 := [167, 255, 233, 43, 182, 0, 52, 176]
abbrev dktX3_word_3 : List UInt8 := dkwX3_word_3 ++ []
def dkwX3_word_2 : List UInt8 := [28, 42, 180, 0, 25, 162, 0, 21, 43, 42, 180, 0, 9, 28, 51, 146, 182, 0, 48, 87, 132, 2, 1]
abbrev dktX3_word_2 : List UInt8 := dkwX3_word_2 ++ dktX3_word_3
def dkwX3_word_1 : List UInt8 := [180, 0, 25, 4, 96, 181, 0, 25, 167, 255, 228, 187, 0, 45, 89, 183, 0, 47, 76, 42, 180, 0, 35, 61]
abbrev dktX3_word_1 : List UInt8 := dkwX3_word_1 ++ dktX3_word_2
def dkwX3_word_0 : List UInt8 := [42, 182, 0, 38, 42, 42, 180, 0, 25, 182, 0, 31, 16, 97, 16, 122, 184, 0, 41, 153, 0, 16, 42, 89]
abbrev dktX3_word_0 : List UInt8 := dkwX3_word_0 ++ dktX3_word_1
theorem dksX3_word_0 : cX3_word.data.toList.drop 0 = dktX3_word_0 := by decide +kernel
theorem dksX3_word_1 : cX3_word.data.toList.drop 24 = dktX3_word_1 := dk_seg dksX3_word_0 24 rfl rfl
theorem dksX3_word_2 : cX3_word.data.toList.drop 48 = dktX3_word_2 := dk_seg dksX3_word_1 24 rfl rfl
theorem dksX3_word_3 : cX3_word.data.toList.drop 71 = dktX3_word_3 := dk_seg dksX3_word_2 23 rfl rfl
theorem dX3_word_0 : decode cX3_word 0 = .ok (.aload_n 0, 1) := dk_42 (dk_at dksX3_word_0 0 rfl rfl)
theorem dX3_word_1 : decode cX3_word 1 = .ok (.invokevirtual 38, 3) := dk_182 0 38 (dk_at dksX3_word_0 1 rfl rfl)
theorem dX3_word_4 : decode cX3_word 4 = .ok (.aload_n 0, 1) := dk_42 (dk_at dksX3_word_0 4 rfl rfl)
theorem dX3_word_5 : decode cX3_word 5 = .ok (.aload_n 0, 1) := dk_42 (dk_at dksX3_word_0 5 rfl rfl)
theorem dX3_word_6 : decode cX3_word 6 = .ok (.getfield 25, 3) := dk_180 0 25 (dk_at dksX3_word_0 6 rfl rfl)
theorem dX3_word_9 : decode cX3_word 9 = .ok (.invokevirtual 31, 3) := dk_182 0 31 (dk_at dksX3_word_0 9 rfl rfl)
theorem dX3_word_12 : decode cX3_word 12 = .ok (.bipush 97, 2) := dk_16 97 (dk_at dksX3_word_0 12 rfl rfl)
theorem dX3_word_14 : decode cX3_word 14 = .ok (.bipush 122, 2) := dk_16 122 (dk_at dksX3_word_0 14 rfl rfl)
theorem dX3_word_16 : decode cX3_word 16 = .ok (.invokestatic 41, 3) := dk_184 0 41 (dk_at dksX3_word_0 16 rfl rfl)
theorem dX3_word_19 : decode cX3_word 19 = .ok (.ifCond .eq 16, 3) := dk_153 0 16 (dk_at dksX3_word_0 19 rfl rfl)
theorem dX3_word_22 : decode cX3_word 22 = .ok (.aload_n 0, 1) := dk_42 (dk_at dksX3_word_0 22 rfl rfl)
theorem dX3_word_23 : decode cX3_word 23 = .ok (.dup, 1) := dk_89 (dk_at dksX3_word_0 23 rfl rfl)
theorem dX3_word_24 : decode cX3_word 24 = .ok (.getfield 25, 3) := dk_180 0 25 (dk_at dksX3_word_1 0 rfl rfl)
theorem dX3_word_27 : decode cX3_word 27 = .ok (.iconst 1, 1) := dk_4 (dk_at dksX3_word_1 3 rfl rfl)
theorem dX3_word_28 : decode cX3_word 28 = .ok (.iadd, 1) := dk_96 (dk_at dksX3_word_1 4 rfl rfl)
theorem dX3_word_29 : decode cX3_word 29 = .ok (.putfield 25, 3) := dk_181 0 25 (dk_at dksX3_word_1 5 rfl rfl)
theorem dX3_word_32 : decode cX3_word 32 = .ok (.goto (-28), 3) := dk_167 255 228 (dk_at dksX3_word_1 8 rfl rfl)
theorem dX3_word_35 : decode cX3_word 35 = .ok (.new 45, 3) := dk_187 0 45 (dk_at dksX3_word_1 11 rfl rfl)
theorem dX3_word_38 : decode cX3_word 38 = .ok (.dup, 1) := dk_89 (dk_at dksX3_word_1 14 rfl rfl)
theorem dX3_word_39 : decode cX3_word 39 = .ok (.invokespecial 47, 3) := dk_183 0 47 (dk_at dksX3_word_1 15 rfl rfl)
theorem dX3_word_42 : decode cX3_word 42 = .ok (.astore_n 1, 1) := dk_76 (dk_at dksX3_word_1 18 rfl rfl)
theorem dX3_word_43 : decode cX3_word 43 = .ok (.aload_n 0, 1) := dk_42 (dk_at dksX3_word_1 19 rfl rfl)
theorem dX3_word_44 : decode cX3_word 44 = .ok (.getfield 35, 3) := dk_180 0 35 (dk_at dksX3_word_1 20 rfl rfl)
theorem dX3_word_47 : decode cX3_word 47 = .ok (.istore_n 2, 1) := dk_61 (dk_at dksX3_word_1 23 rfl rfl)
theorem dX3_word_48 : decode cX3_word 48 = .ok (.iload_n 2, 1) := dk_28 (dk_at dksX3_word_2 0 rfl rfl)
theorem dX3_word_49 : decode cX3_word 49 = .ok (.aload_n 0, 1) := dk_42 (dk_at dksX3_word_2 1 rfl rfl)
theorem dX3_word_50 : decode cX3_word 50 = .ok (.getfield 25, 3) := dk_180 0 25 (dk_at dksX3_word_2 2 rfl rfl)
theorem dX3_word_53 : decode cX3_word 53 = .ok (.if_icmp .ge 21, 3) := dk_162 0 21 (dk_at dksX3_word_2 5 rfl rfl)
theorem dX3_word_56 : decode cX3_word 56 = .ok (.aload_n 1, 1) := dk_43 (dk_at dksX3_word_2 8 rfl rfl)
theorem dX3_word_57 : decode cX3_word 57 = .ok (.aload_n 0, 1) := dk_42 (dk_at dksX3_word_2 9 rfl rfl)
theorem dX3_word_58 : decode cX3_word 58 = .ok (.getfield 9, 3) := dk_180 0 9 (dk_at dksX3_word_2 10 rfl rfl)
theorem dX3_word_61 : decode cX3_word 61 = .ok (.iload_n 2, 1) := dk_28 (dk_at dksX3_word_2 13 rfl rfl)
theorem dX3_word_62 : decode cX3_word 62 = .ok (.baload, 1) := dk_51 (dk_at dksX3_word_2 14 rfl rfl)
theorem dX3_word_63 : decode cX3_word 63 = .ok (.i2c, 1) := dk_146 (dk_at dksX3_word_2 15 rfl rfl)
theorem dX3_word_64 : decode cX3_word 64 = .ok (.invokevirtual 48, 3) := dk_182 0 48 (dk_at dksX3_word_2 16 rfl rfl)
theorem dX3_word_67 : decode cX3_word 67 = .ok (.pop, 1) := dk_87 (dk_at dksX3_word_2 19 rfl rfl)
theorem dX3_word_68 : decode cX3_word 68 = .ok (.iinc 2 1, 3) := dk_132 2 1 (dk_at dksX3_word_2 20 rfl rfl)
theorem dX3_word_71 : decode cX3_word 71 = .ok (.goto (-23), 3) := dk_167 255 233 (dk_at dksX3_word_3 0 rfl rfl)
theorem dX3_word_74 : decode cX3_word 74 = .ok (.aload_n 1, 1) := dk_43 (dk_at dksX3_word_3 3 rfl rfl)
theorem dX3_word_75 : decode cX3_word 75 = .ok (.invokevirtual 52, 3) := dk_182 0 52 (dk_at dksX3_word_3 4 rfl rfl)
theorem dX3_word_78 : decode cX3_word 78 = .ok (.areturn, 1) := dk_176 (dk_at dksX3_word_3 7 rfl rfl)
abbrev cX3_wrong : ByteArray := prog_13_method_15_code
def yX3_wrong : MethodName := ⟨RX3, "wrong", "()LStepDebts$Wrong;"⟩
def dkwX3_wrong_0 : List UInt8 := [187, 0, 76, 89, 183, 0, 78, 176]
abbrev dktX3_wrong_0 : List UInt8 := dkwX3_wrong_0 ++ []
theorem dksX3_wrong_0 : cX3_wrong.data.toList.drop 0 = dktX3_wrong_0 := by decide +kernel
theorem dX3_wrong_0 : decode cX3_wrong 0 = .ok (.new 76, 3) := dk_187 0 76 (dk_at dksX3_wrong_0 0 rfl rfl)
theorem dX3_wrong_3 : decode cX3_wrong 3 = .ok (.dup, 1) := dk_89 (dk_at dksX3_wrong_0 3 rfl rfl)
theorem dX3_wrong_4 : decode cX3_wrong 4 = .ok (.invokespecial 78, 3) := dk_183 0 78 (dk_at dksX3_wrong_0 4 rfl rfl)
theorem dX3_wrong_7 : decode cX3_wrong 7 = .ok (.areturn, 1) := dk_176 (dk_at dksX3_wrong_0 7 rfl rfl)
abbrev cX3_figures : ByteArray := prog_13_method_13_code
def yX3_figures : MethodName := ⟨RX3, "figures", "(III)I"⟩
def dkwX3_figures_5 : List UInt8 := [21, 4, 172]
abbrev dktX3_figures_5 : List UInt8 := dkwX3_figures_5 ++ []
def dkwX3_figures_4 : List UInt8 := [180, 0, 35, 100, 29, 163, 0, 13, 21, 4, 27, 28, 184, 0, 41, 154, 0, 8, 42, 182, 0, 69, 191]
abbrev dktX3_figures_4 : List UInt8 := dkwX3_figures_4 ++ dktX3_figures_5
def dkwX3_figures_3 : List UInt8 := [181, 0, 25, 167, 255, 191, 42, 180, 0, 25, 42, 180, 0, 35, 159, 0, 26, 42, 180, 0, 25, 42]
abbrev dktX3_figures_3 : List UInt8 := dkwX3_figures_3 ++ dktX3_figures_4
def dkwX3_figures_2 : List UInt8 := [180, 0, 25, 182, 0, 31, 96, 16, 48, 100, 167, 0, 5, 21, 4, 54, 4, 42, 89, 180, 0, 25, 4, 96]
abbrev dktX3_figures_2 : List UInt8 := dkwX3_figures_2 ++ dktX3_figures_3
def dkwX3_figures_1 : List UInt8 := [153, 0, 53, 42, 180, 0, 25, 42, 180, 0, 35, 100, 29, 162, 0, 23, 16, 10, 21, 4, 104, 42, 42]
abbrev dktX3_figures_1 : List UInt8 := dkwX3_figures_1 ++ dktX3_figures_2
def dkwX3_figures_0 : List UInt8 := [42, 182, 0, 38, 3, 54, 4, 42, 42, 180, 0, 25, 182, 0, 31, 16, 48, 16, 57, 184, 0, 41]
abbrev dktX3_figures_0 : List UInt8 := dkwX3_figures_0 ++ dktX3_figures_1
theorem dksX3_figures_0 : cX3_figures.data.toList.drop 0 = dktX3_figures_0 := by decide +kernel
theorem dksX3_figures_1 : cX3_figures.data.toList.drop 22 = dktX3_figures_1 := dk_seg dksX3_figures_0 22 rfl rfl
theorem dksX3_figures_2 : cX3_figures.data.toList.drop 45 = dktX3_figures_2 := dk_seg dksX3_figures_1 23 rfl rfl
theorem dksX3_figures_3 : cX3_figures.data.toList.drop 69 = dktX3_figures_3 := dk_seg dksX3_figures_2 24 rfl rfl
theorem dksX3_figures_4 : cX3_figures.data.toList.drop 91 = dktX3_figures_4 := dk_seg dksX3_figures_3 22 rfl rfl
theorem dksX3_figures_5 : cX3_figures.data.toList.drop 114 = dktX3_figures_5 := dk_seg dksX3_figures_4 23 rfl rfl
theorem dX3_figures_0 : decode cX3_figures 0 = .ok (.aload_n 0, 1) := dk_42 (dk_at dksX3_figures_0 0 rfl rfl)
theorem dX3_figures_1 : decode cX3_figures 1 = .ok (.invokevirtual 38, 3) := dk_182 0 38 (dk_at dksX3_figures_0 1 rfl rfl)
theorem dX3_figures_4 : decode cX3_figures 4 = .ok (.iconst 0, 1) := dk_3 (dk_at dksX3_figures_0 4 rfl rfl)
theorem dX3_figures_5 : decode cX3_figures 5 = .ok (.istore 4, 2) := dk_54 4 (dk_at dksX3_figures_0 5 rfl rfl)
theorem dX3_figures_7 : decode cX3_figures 7 = .ok (.aload_n 0, 1) := dk_42 (dk_at dksX3_figures_0 7 rfl rfl)
theorem dX3_figures_8 : decode cX3_figures 8 = .ok (.aload_n 0, 1) := dk_42 (dk_at dksX3_figures_0 8 rfl rfl)
theorem dX3_figures_9 : decode cX3_figures 9 = .ok (.getfield 25, 3) := dk_180 0 25 (dk_at dksX3_figures_0 9 rfl rfl)
theorem dX3_figures_12 : decode cX3_figures 12 = .ok (.invokevirtual 31, 3) := dk_182 0 31 (dk_at dksX3_figures_0 12 rfl rfl)
theorem dX3_figures_15 : decode cX3_figures 15 = .ok (.bipush 48, 2) := dk_16 48 (dk_at dksX3_figures_0 15 rfl rfl)
theorem dX3_figures_17 : decode cX3_figures 17 = .ok (.bipush 57, 2) := dk_16 57 (dk_at dksX3_figures_0 17 rfl rfl)
theorem dX3_figures_19 : decode cX3_figures 19 = .ok (.invokestatic 41, 3) := dk_184 0 41 (dk_at dksX3_figures_0 19 rfl rfl)
theorem dX3_figures_22 : decode cX3_figures 22 = .ok (.ifCond .eq 53, 3) := dk_153 0 53 (dk_at dksX3_figures_1 0 rfl rfl)
theorem dX3_figures_25 : decode cX3_figures 25 = .ok (.aload_n 0, 1) := dk_42 (dk_at dksX3_figures_1 3 rfl rfl)
theorem dX3_figures_26 : decode cX3_figures 26 = .ok (.getfield 25, 3) := dk_180 0 25 (dk_at dksX3_figures_1 4 rfl rfl)
theorem dX3_figures_29 : decode cX3_figures 29 = .ok (.aload_n 0, 1) := dk_42 (dk_at dksX3_figures_1 7 rfl rfl)
theorem dX3_figures_30 : decode cX3_figures 30 = .ok (.getfield 35, 3) := dk_180 0 35 (dk_at dksX3_figures_1 8 rfl rfl)
theorem dX3_figures_33 : decode cX3_figures 33 = .ok (.isub, 1) := dk_100 (dk_at dksX3_figures_1 11 rfl rfl)
theorem dX3_figures_34 : decode cX3_figures 34 = .ok (.iload_n 3, 1) := dk_29 (dk_at dksX3_figures_1 12 rfl rfl)
theorem dX3_figures_35 : decode cX3_figures 35 = .ok (.if_icmp .ge 23, 3) := dk_162 0 23 (dk_at dksX3_figures_1 13 rfl rfl)
theorem dX3_figures_38 : decode cX3_figures 38 = .ok (.bipush 10, 2) := dk_16 10 (dk_at dksX3_figures_1 16 rfl rfl)
theorem dX3_figures_40 : decode cX3_figures 40 = .ok (.iload 4, 2) := dk_21 4 (dk_at dksX3_figures_1 18 rfl rfl)
theorem dX3_figures_42 : decode cX3_figures 42 = .ok (.imul, 1) := dk_104 (dk_at dksX3_figures_1 20 rfl rfl)
theorem dX3_figures_43 : decode cX3_figures 43 = .ok (.aload_n 0, 1) := dk_42 (dk_at dksX3_figures_1 21 rfl rfl)
theorem dX3_figures_44 : decode cX3_figures 44 = .ok (.aload_n 0, 1) := dk_42 (dk_at dksX3_figures_1 22 rfl rfl)
theorem dX3_figures_45 : decode cX3_figures 45 = .ok (.getfield 25, 3) := dk_180 0 25 (dk_at dksX3_figures_2 0 rfl rfl)
theorem dX3_figures_48 : decode cX3_figures 48 = .ok (.invokevirtual 31, 3) := dk_182 0 31 (dk_at dksX3_figures_2 3 rfl rfl)
theorem dX3_figures_51 : decode cX3_figures 51 = .ok (.iadd, 1) := dk_96 (dk_at dksX3_figures_2 6 rfl rfl)
theorem dX3_figures_52 : decode cX3_figures 52 = .ok (.bipush 48, 2) := dk_16 48 (dk_at dksX3_figures_2 7 rfl rfl)
theorem dX3_figures_54 : decode cX3_figures 54 = .ok (.isub, 1) := dk_100 (dk_at dksX3_figures_2 9 rfl rfl)
theorem dX3_figures_55 : decode cX3_figures 55 = .ok (.goto 5, 3) := dk_167 0 5 (dk_at dksX3_figures_2 10 rfl rfl)
theorem dX3_figures_58 : decode cX3_figures 58 = .ok (.iload 4, 2) := dk_21 4 (dk_at dksX3_figures_2 13 rfl rfl)
theorem dX3_figures_60 : decode cX3_figures 60 = .ok (.istore 4, 2) := dk_54 4 (dk_at dksX3_figures_2 15 rfl rfl)
theorem dX3_figures_62 : decode cX3_figures 62 = .ok (.aload_n 0, 1) := dk_42 (dk_at dksX3_figures_2 17 rfl rfl)
theorem dX3_figures_63 : decode cX3_figures 63 = .ok (.dup, 1) := dk_89 (dk_at dksX3_figures_2 18 rfl rfl)
theorem dX3_figures_64 : decode cX3_figures 64 = .ok (.getfield 25, 3) := dk_180 0 25 (dk_at dksX3_figures_2 19 rfl rfl)
theorem dX3_figures_67 : decode cX3_figures 67 = .ok (.iconst 1, 1) := dk_4 (dk_at dksX3_figures_2 22 rfl rfl)
theorem dX3_figures_68 : decode cX3_figures 68 = .ok (.iadd, 1) := dk_96 (dk_at dksX3_figures_2 23 rfl rfl)
theorem dX3_figures_69 : decode cX3_figures 69 = .ok (.putfield 25, 3) := dk_181 0 25 (dk_at dksX3_figures_3 0 rfl rfl)
theorem dX3_figures_72 : decode cX3_figures 72 = .ok (.goto (-65), 3) := dk_167 255 191 (dk_at dksX3_figures_3 3 rfl rfl)
theorem dX3_figures_75 : decode cX3_figures 75 = .ok (.aload_n 0, 1) := dk_42 (dk_at dksX3_figures_3 6 rfl rfl)
theorem dX3_figures_76 : decode cX3_figures 76 = .ok (.getfield 25, 3) := dk_180 0 25 (dk_at dksX3_figures_3 7 rfl rfl)
theorem dX3_figures_79 : decode cX3_figures 79 = .ok (.aload_n 0, 1) := dk_42 (dk_at dksX3_figures_3 10 rfl rfl)
theorem dX3_figures_80 : decode cX3_figures 80 = .ok (.getfield 35, 3) := dk_180 0 35 (dk_at dksX3_figures_3 11 rfl rfl)
theorem dX3_figures_83 : decode cX3_figures 83 = .ok (.if_icmp .eq 26, 3) := dk_159 0 26 (dk_at dksX3_figures_3 14 rfl rfl)
theorem dX3_figures_86 : decode cX3_figures 86 = .ok (.aload_n 0, 1) := dk_42 (dk_at dksX3_figures_3 17 rfl rfl)
theorem dX3_figures_87 : decode cX3_figures 87 = .ok (.getfield 25, 3) := dk_180 0 25 (dk_at dksX3_figures_3 18 rfl rfl)
theorem dX3_figures_90 : decode cX3_figures 90 = .ok (.aload_n 0, 1) := dk_42 (dk_at dksX3_figures_3 21 rfl rfl)
theorem dX3_figures_91 : decode cX3_figures 91 = .ok (.getfield 35, 3) := dk_180 0 35 (dk_at dksX3_figures_4 0 rfl rfl)
theorem dX3_figures_94 : decode cX3_figures 94 = .ok (.isub, 1) := dk_100 (dk_at dksX3_figures_4 3 rfl rfl)
theorem dX3_figures_95 : decode cX3_figures 95 = .ok (.iload_n 3, 1) := dk_29 (dk_at dksX3_figures_4 4 rfl rfl)
theorem dX3_figures_96 : decode cX3_figures 96 = .ok (.if_icmp .gt 13, 3) := dk_163 0 13 (dk_at dksX3_figures_4 5 rfl rfl)
theorem dX3_figures_99 : decode cX3_figures 99 = .ok (.iload 4, 2) := dk_21 4 (dk_at dksX3_figures_4 8 rfl rfl)
theorem dX3_figures_101 : decode cX3_figures 101 = .ok (.iload_n 1, 1) := dk_27 (dk_at dksX3_figures_4 10 rfl rfl)
theorem dX3_figures_102 : decode cX3_figures 102 = .ok (.iload_n 2, 1) := dk_28 (dk_at dksX3_figures_4 11 rfl rfl)
theorem dX3_figures_103 : decode cX3_figures 103 = .ok (.invokestatic 41, 3) := dk_184 0 41 (dk_at dksX3_figures_4 12 rfl rfl)
theorem dX3_figures_106 : decode cX3_figures 106 = .ok (.ifCond .ne 8, 3) := dk_154 0 8 (dk_at dksX3_figures_4 15 rfl rfl)
theorem dX3_figures_109 : decode cX3_figures 109 = .ok (.aload_n 0, 1) := dk_42 (dk_at dksX3_figures_4 18 rfl rfl)
theorem dX3_figures_110 : decode cX3_figures 110 = .ok (.invokevirtual 69, 3) := dk_182 0 69 (dk_at dksX3_figures_4 19 rfl rfl)
theorem dX3_figures_113 : decode cX3_figures 113 = .ok (.athrow, 1) := dk_191 (dk_at dksX3_figures_4 22 rfl rfl)
theorem dX3_figures_114 : decode cX3_figures 114 = .ok (.iload 4, 2) := dk_21 4 (dk_at dksX3_figures_5 0 rfl rfl)
theorem dX3_figures_116 : decode cX3_figures 116 = .ok (.ireturn, 1) := dk_172 (dk_at dksX3_figures_5 2 rfl rfl)
abbrev cX3_number : ByteArray := prog_13_method_12_code
def yX3_number : MethodName := ⟨RX3, "number", "(II)I"⟩
def dkwX3_number_0 : List UInt8 := [42, 27, 28, 6, 182, 0, 65, 172]
abbrev dktX3_number_0 : List UInt8 := dkwX3_number_0 ++ []
theorem dksX3_number_0 : cX3_number.data.toList.drop 0 = dktX3_number_0 := by decide +kernel
theorem dX3_number_0 : decode cX3_number 0 = .ok (.aload_n 0, 1) := dk_42 (dk_at dksX3_number_0 0 rfl rfl)
theorem dX3_number_1 : decode cX3_number 1 = .ok (.iload_n 1, 1) := dk_27 (dk_at dksX3_number_0 1 rfl rfl)
theorem dX3_number_2 : decode cX3_number 2 = .ok (.iload_n 2, 1) := dk_28 (dk_at dksX3_number_0 2 rfl rfl)
theorem dX3_number_3 : decode cX3_number 3 = .ok (.iconst 3, 1) := dk_6 (dk_at dksX3_number_0 3 rfl rfl)
theorem dX3_number_4 : decode cX3_number 4 = .ok (.invokevirtual 65, 3) := dk_182 0 65 (dk_at dksX3_number_0 4 rfl rfl)
theorem dX3_number_7 : decode cX3_number 7 = .ok (.ireturn, 1) := dk_172 (dk_at dksX3_number_0 7 rfl rfl)
abbrev cX3_passes : ByteArray := prog_13_method_9_code
def yX3_passes : MethodName := ⟨RX3, "passes", "(Ljava/lang/String;)Z"⟩
def dkwX3_passes_0 : List UInt8 := [42, 182, 0, 56, 43, 182, 0, 59, 153, 0, 5, 4, 172, 42, 42, 180, 0, 35, 181, 0, 25, 3, 172]
abbrev dktX3_passes_0 : List UInt8 := dkwX3_passes_0 ++ []
theorem dksX3_passes_0 : cX3_passes.data.toList.drop 0 = dktX3_passes_0 := by decide +kernel
theorem dX3_passes_0 : decode cX3_passes 0 = .ok (.aload_n 0, 1) := dk_42 (dk_at dksX3_passes_0 0 rfl rfl)
theorem dX3_passes_1 : decode cX3_passes 1 = .ok (.invokevirtual 56, 3) := dk_182 0 56 (dk_at dksX3_passes_0 1 rfl rfl)
theorem dX3_passes_4 : decode cX3_passes 4 = .ok (.aload_n 1, 1) := dk_43 (dk_at dksX3_passes_0 4 rfl rfl)
theorem dX3_passes_5 : decode cX3_passes 5 = .ok (.invokevirtual 59, 3) := dk_182 0 59 (dk_at dksX3_passes_0 5 rfl rfl)
theorem dX3_passes_8 : decode cX3_passes 8 = .ok (.ifCond .eq 5, 3) := dk_153 0 5 (dk_at dksX3_passes_0 8 rfl rfl)
theorem dX3_passes_11 : decode cX3_passes 11 = .ok (.iconst 1, 1) := dk_4 (dk_at dksX3_passes_0 11 rfl rfl)
theorem dX3_passes_12 : decode cX3_passes 12 = .ok (.ireturn, 1) := dk_172 (dk_at dksX3_passes_0 12 rfl rfl)
theorem dX3_passes_13 : decode cX3_passes 13 = .ok (.aload_n 0, 1) := dk_42 (dk_at dksX3_passes_0 13 rfl rfl)
theorem dX3_passes_14 : decode cX3_passes 14 = .ok (.aload_n 0, 1) := dk_42 (dk_at dksX3_passes_0 14 rfl rfl)
theorem dX3_passes_15 : decode cX3_passes 15 = .ok (.getfield 35, 3) := dk_180 0 35 (dk_at dksX3_passes_0 15 rfl rfl)
theorem dX3_passes_18 : decode cX3_passes 18 = .ok (.putfield 25, 3) := dk_181 0 25 (dk_at dksX3_passes_0 18 rfl rfl)
theorem dX3_passes_21 : decode cX3_passes 21 = .ok (.iconst 0, 1) := dk_3 (dk_at dksX3_passes_0 21 rfl rfl)
theorem dX3_passes_22 : decode cX3_passes 22 = .ok (.ireturn, 1) := dk_172 (dk_at dksX3_passes_0 22 rfl rfl)
abbrev cX3_sign : ByteArray := prog_13_method_10_code
def yX3_sign : MethodName := ⟨RX3, "sign", "(I)Z"⟩
def dkwX3_sign_1 : List UInt8 := [96, 181, 0, 25, 4, 172]
abbrev dktX3_sign_1 : List UInt8 := dkwX3_sign_1 ++ []
def dkwX3_sign_0 : List UInt8 := [42, 182, 0, 38, 42, 42, 180, 0, 25, 182, 0, 31, 27, 159, 0, 5, 3, 172, 42, 89, 180, 0, 25, 4]
abbrev dktX3_sign_0 : List UInt8 := dkwX3_sign_0 ++ dktX3_sign_1
theorem dksX3_sign_0 : cX3_sign.data.toList.drop 0 = dktX3_sign_0 := by decide +kernel
theorem dksX3_sign_1 : cX3_sign.data.toList.drop 24 = dktX3_sign_1 := dk_seg dksX3_sign_0 24 rfl rfl
theorem dX3_sign_0 : decode cX3_sign 0 = .ok (.aload_n 0, 1) := dk_42 (dk_at dksX3_sign_0 0 rfl rfl)
theorem dX3_sign_1 : decode cX3_sign 1 = .ok (.invokevirtual 38, 3) := dk_182 0 38 (dk_at dksX3_sign_0 1 rfl rfl)
theorem dX3_sign_4 : decode cX3_sign 4 = .ok (.aload_n 0, 1) := dk_42 (dk_at dksX3_sign_0 4 rfl rfl)
theorem dX3_sign_5 : decode cX3_sign 5 = .ok (.aload_n 0, 1) := dk_42 (dk_at dksX3_sign_0 5 rfl rfl)
theorem dX3_sign_6 : decode cX3_sign 6 = .ok (.getfield 25, 3) := dk_180 0 25 (dk_at dksX3_sign_0 6 rfl rfl)
theorem dX3_sign_9 : decode cX3_sign 9 = .ok (.invokevirtual 31, 3) := dk_182 0 31 (dk_at dksX3_sign_0 9 rfl rfl)
theorem dX3_sign_12 : decode cX3_sign 12 = .ok (.iload_n 1, 1) := dk_27 (dk_at dksX3_sign_0 12 rfl rfl)
theorem dX3_sign_13 : decode cX3_sign 13 = .ok (.if_icmp .eq 5, 3) := dk_159 0 5 (dk_at dksX3_sign_0 13 rfl rfl)
theorem dX3_sign_16 : decode cX3_sign 16 = .ok (.iconst 0, 1) := dk_3 (dk_at dksX3_sign_0 16 rfl rfl)
theorem dX3_sign_17 : decode cX3_sign 17 = .ok (.ireturn, 1) := dk_172 (dk_at dksX3_sign_0 17 rfl rfl)
theorem dX3_sign_18 : decode cX3_sign 18 = .ok (.aload_n 0, 1) := dk_42 (dk_at dksX3_sign_0 18 rfl rfl)
theorem dX3_sign_19 : decode cX3_sign 19 = .ok (.dup, 1) := dk_89 (dk_at dksX3_sign_0 19 rfl rfl)
theorem dX3_sign_20 : decode cX3_sign 20 = .ok (.getfield 25, 3) := dk_180 0 25 (dk_at dksX3_sign_0 20 rfl rfl)
theorem dX3_sign_23 : decode cX3_sign 23 = .ok (.iconst 1, 1) := dk_4 (dk_at dksX3_sign_0 23 rfl rfl)
theorem dX3_sign_24 : decode cX3_sign 24 = .ok (.iadd, 1) := dk_96 (dk_at dksX3_sign_1 0 rfl rfl)
theorem dX3_sign_25 : decode cX3_sign 25 = .ok (.putfield 25, 3) := dk_181 0 25 (dk_at dksX3_sign_1 1 rfl rfl)
theorem dX3_sign_28 : decode cX3_sign 28 = .ok (.iconst 1, 1) := dk_4 (dk_at dksX3_sign_1 4 rfl rfl)
theorem dX3_sign_29 : decode cX3_sign 29 = .ok (.ireturn, 1) := dk_172 (dk_at dksX3_sign_1 5 rfl rfl)
abbrev cX3_goesDeeper : ByteArray := prog_13_method_16_code
def yX3_goesDeeper : MethodName := ⟨RX3, "goesDeeper", "()V"⟩
def dkwX3_goesDeeper_1 : List UInt8 := [177]
abbrev dktX3_goesDeeper_1 : List UInt8 := dkwX3_goesDeeper_1 ++ []
def dkwX3_goesDeeper_0 : List UInt8 := [42, 180, 0, 28, 16, 6, 160, 0, 8, 42, 182, 0, 69, 191, 42, 89, 180, 0, 28, 4, 96, 181, 0, 28]
abbrev dktX3_goesDeeper_0 : List UInt8 := dkwX3_goesDeeper_0 ++ dktX3_goesDeeper_1
theorem dksX3_goesDeeper_0 : cX3_goesDeeper.data.toList.drop 0 = dktX3_goesDeeper_0 := by decide +kernel
theorem dksX3_goesDeeper_1 : cX3_goesDeeper.data.toList.drop 24 = dktX3_goesDeeper_1 := dk_seg dksX3_goesDeeper_0 24 rfl rfl
theorem dX3_goesDeeper_0 : decode cX3_goesDeeper 0 = .ok (.aload_n 0, 1) := dk_42 (dk_at dksX3_goesDeeper_0 0 rfl rfl)
theorem dX3_goesDeeper_1 : decode cX3_goesDeeper 1 = .ok (.getfield 28, 3) := dk_180 0 28 (dk_at dksX3_goesDeeper_0 1 rfl rfl)
theorem dX3_goesDeeper_4 : decode cX3_goesDeeper 4 = .ok (.bipush 6, 2) := dk_16 6 (dk_at dksX3_goesDeeper_0 4 rfl rfl)
theorem dX3_goesDeeper_6 : decode cX3_goesDeeper 6 = .ok (.if_icmp .ne 8, 3) := dk_160 0 8 (dk_at dksX3_goesDeeper_0 6 rfl rfl)
theorem dX3_goesDeeper_9 : decode cX3_goesDeeper 9 = .ok (.aload_n 0, 1) := dk_42 (dk_at dksX3_goesDeeper_0 9 rfl rfl)
theorem dX3_goesDeeper_10 : decode cX3_goesDeeper 10 = .ok (.invokevirtual 69, 3) := dk_182 0 69 (dk_at dksX3_goesDeeper_0 10 rfl rfl)
theorem dX3_goesDeeper_13 : decode cX3_goesDeeper 13 = .ok (.athrow, 1) := dk_191 (dk_at dksX3_goesDeeper_0 13 rfl rfl)
theorem dX3_goesDeeper_14 : decode cX3_goesDeeper 14 = .ok (.aload_n 0, 1) := dk_42 (dk_at dksX3_goesDeeper_0 14 rfl rfl)
theorem dX3_goesDeeper_15 : decode cX3_goesDeeper 15 = .ok (.dup, 1) := dk_89 (dk_at dksX3_goesDeeper_0 15 rfl rfl)
theorem dX3_goesDeeper_16 : decode cX3_goesDeeper 16 = .ok (.getfield 28, 3) := dk_180 0 28 (dk_at dksX3_goesDeeper_0 16 rfl rfl)
theorem dX3_goesDeeper_19 : decode cX3_goesDeeper 19 = .ok (.iconst 1, 1) := dk_4 (dk_at dksX3_goesDeeper_0 19 rfl rfl)
theorem dX3_goesDeeper_20 : decode cX3_goesDeeper 20 = .ok (.iadd, 1) := dk_96 (dk_at dksX3_goesDeeper_0 20 rfl rfl)
theorem dX3_goesDeeper_21 : decode cX3_goesDeeper 21 = .ok (.putfield 28, 3) := dk_181 0 28 (dk_at dksX3_goesDeeper_0 21 rfl rfl)
theorem dX3_goesDeeper_24 : decode cX3_goesDeeper 24 = .ok (.return_, 1) := dk_177 (dk_at dksX3_goesDeeper_1 0 rfl rfl)
abbrev cX3_comesUp : ByteArray := prog_13_method_17_code
def yX3_comesUp : MethodName := ⟨RX3, "comesUp", "()V"⟩
def dkwX3_comesUp_0 : List UInt8 := [42, 89, 180, 0, 28, 4, 100, 181, 0, 28, 177]
abbrev dktX3_comesUp_0 : List UInt8 := dkwX3_comesUp_0 ++ []
theorem dksX3_comesUp_0 : cX3_comesUp.data.toList.drop 0 = dktX3_comesUp_0 := by decide +kernel
theorem dX3_comesUp_0 : decode cX3_comesUp 0 = .ok (.aload_n 0, 1) := dk_42 (dk_at dksX3_comesUp_0 0 rfl rfl)
theorem dX3_comesUp_1 : decode cX3_comesUp 1 = .ok (.dup, 1) := dk_89 (dk_at dksX3_comesUp_0 1 rfl rfl)
theorem dX3_comesUp_2 : decode cX3_comesUp 2 = .ok (.getfield 28, 3) := dk_180 0 28 (dk_at dksX3_comesUp_0 2 rfl rfl)
theorem dX3_comesUp_5 : decode cX3_comesUp 5 = .ok (.iconst 1, 1) := dk_4 (dk_at dksX3_comesUp_0 5 rfl rfl)
theorem dX3_comesUp_6 : decode cX3_comesUp 6 = .ok (.isub, 1) := dk_100 (dk_at dksX3_comesUp_0 6 rfl rfl)
theorem dX3_comesUp_7 : decode cX3_comesUp 7 = .ok (.putfield 28, 3) := dk_181 0 28 (dk_at dksX3_comesUp_0 7 rfl rfl)
theorem dX3_comesUp_10 : decode cX3_comesUp 10 = .ok (.return_, 1) := dk_177 (dk_at dksX3_comesUp_0 10 rfl rfl)
abbrev cX3_isFigure : ByteArray := prog_13_method_11_code
def yX3_isFigure : MethodName := ⟨RX3, "isFigure", "()Z"⟩
def dkwX3_isFigure_0 : List UInt8 := [42, 182, 0, 38, 42, 42, 180, 0, 25, 182, 0, 31, 16, 48, 16, 57, 184, 0, 41, 172]
abbrev dktX3_isFigure_0 : List UInt8 := dkwX3_isFigure_0 ++ []
theorem dksX3_isFigure_0 : cX3_isFigure.data.toList.drop 0 = dktX3_isFigure_0 := by decide +kernel
theorem dX3_isFigure_0 : decode cX3_isFigure 0 = .ok (.aload_n 0, 1) := dk_42 (dk_at dksX3_isFigure_0 0 rfl rfl)
theorem dX3_isFigure_1 : decode cX3_isFigure 1 = .ok (.invokevirtual 38, 3) := dk_182 0 38 (dk_at dksX3_isFigure_0 1 rfl rfl)
theorem dX3_isFigure_4 : decode cX3_isFigure 4 = .ok (.aload_n 0, 1) := dk_42 (dk_at dksX3_isFigure_0 4 rfl rfl)
theorem dX3_isFigure_5 : decode cX3_isFigure 5 = .ok (.aload_n 0, 1) := dk_42 (dk_at dksX3_isFigure_0 5 rfl rfl)
theorem dX3_isFigure_6 : decode cX3_isFigure 6 = .ok (.getfield 25, 3) := dk_180 0 25 (dk_at dksX3_isFigure_0 6 rfl rfl)
theorem dX3_isFigure_9 : decode cX3_isFigure 9 = .ok (.invokevirtual 31, 3) := dk_182 0 31 (dk_at dksX3_isFigure_0 9 rfl rfl)
theorem dX3_isFigure_12 : decode cX3_isFigure 12 = .ok (.bipush 48, 2) := dk_16 48 (dk_at dksX3_isFigure_0 12 rfl rfl)
theorem dX3_isFigure_14 : decode cX3_isFigure 14 = .ok (.bipush 57, 2) := dk_16 57 (dk_at dksX3_isFigure_0 14 rfl rfl)
theorem dX3_isFigure_16 : decode cX3_isFigure 16 = .ok (.invokestatic 41, 3) := dk_184 0 41 (dk_at dksX3_isFigure_0 16 rfl rfl)
theorem dX3_isFigure_19 : decode cX3_isFigure 19 = .ok (.ireturn, 1) := dk_172 (dk_at dksX3_isFigure_0 19 rfl rfl)
theorem q81 : (Jvm.Cond.initialized "StepDebts$Reader") ∈ lw_all := lw_g (lw_at lw_m1 6 rfl) rfl
theorem q221 : (Jvm.Cond.instantiable "StepDebts$Reader" (7 : Nat)) ∈ lw_all := lw_g (lw_at lw_m1 146 rfl) rfl
theorem q223 : (Jvm.Cond.instanceMethod ({ cls := "StepDebts$Reader", name := "<init>", desc := "()V" } : Jvm.MethodName)) ∈ lw_all := lw_g (lw_at lw_m1 148 rfl) rfl
theorem q224 : (Jvm.Cond.code ({ cls := "StepDebts$Reader", name := "<init>", desc := "()V" } : Jvm.MethodName) prog_13_method_1_code (1 : Nat) (Option.none : Option Jvm.ClassFile.FieldType)) ∈ lw_all := lw_g (lw_at lw_m1 149 rfl) rfl
theorem q225 : (Jvm.Cond.methodLink "StepDebts$Reader" (3 : Nat) ({ cls := "java/lang/Object", name := "<init>", desc := "()V" } : Jvm.MethodName)) ∈ lw_all := lw_g (lw_at lw_m1 150 rfl) rfl
theorem q226 : (Jvm.Cond.fieldLink "StepDebts$Reader" (9 : Nat) "StepDebts$Reader" "tape" "[B") ∈ lw_all := lw_g (lw_at lw_m1 151 rfl) rfl
theorem q227 : (Jvm.Cond.fieldLink "StepDebts$Reader" (19 : Nat) "StepDebts$Reader" "length" "I") ∈ lw_all := lw_g (lw_at lw_m1 152 rfl) rfl
theorem q228 : (Jvm.Cond.fieldLink "StepDebts$Reader" (22 : Nat) "StepDebts$Reader" "end" "I") ∈ lw_all := lw_g (lw_at lw_m1 153 rfl) rfl
theorem q229 : (Jvm.Cond.fieldLink "StepDebts$Reader" (25 : Nat) "StepDebts$Reader" "at" "I") ∈ lw_all := lw_g (lw_at lw_m1 154 rfl) rfl
theorem q230 : (Jvm.Cond.fieldLink "StepDebts$Reader" (35 : Nat) "StepDebts$Reader" "begin" "I") ∈ lw_all := lw_g (lw_at lw_m1 155 rfl) rfl
theorem q232 : (Jvm.Cond.fieldLink "StepDebts$Reader" (15 : Nat) "StepDebts$Reader" "fault" "I") ∈ lw_all := lw_g (lw_at lw_m1 157 rfl) rfl
theorem q234 : (Jvm.Cond.fieldLink "StepDebts$Reader" (28 : Nat) "StepDebts$Reader" "deep" "I") ∈ lw_all := lw_g (lw_at lw_m1 159 rfl) rfl
theorem q235 : (Jvm.Cond.laysFinal "StepDebts$Reader" "StepDebts$Reader" "tape" "[B") ∈ lw_all := lw_g (lw_at lw_m1 160 rfl) rfl
theorem q236 : (Jvm.Cond.soleField "StepDebts$Reader" "tape") ∈ lw_all := lw_g (lw_at lw_m1 161 rfl) rfl
theorem q237 : (Jvm.Cond.lays "StepDebts$Reader" "StepDebts$Reader" "length" "I") ∈ lw_all := lw_g (lw_at lw_m1 162 rfl) rfl
theorem q238 : (Jvm.Cond.soleField "StepDebts$Reader" "length") ∈ lw_all := lw_g (lw_at lw_m1 163 rfl) rfl
theorem q239 : (Jvm.Cond.lays "StepDebts$Reader" "StepDebts$Reader" "end" "I") ∈ lw_all := lw_g (lw_at lw_m1 164 rfl) rfl
theorem q240 : (Jvm.Cond.soleField "StepDebts$Reader" "end") ∈ lw_all := lw_g (lw_at lw_m1 165 rfl) rfl
theorem q241 : (Jvm.Cond.lays "StepDebts$Reader" "StepDebts$Reader" "at" "I") ∈ lw_all := lw_g (lw_at lw_m1 166 rfl) rfl
theorem q242 : (Jvm.Cond.soleField "StepDebts$Reader" "at") ∈ lw_all := lw_g (lw_at lw_m1 167 rfl) rfl
theorem q243 : (Jvm.Cond.lays "StepDebts$Reader" "StepDebts$Reader" "begin" "I") ∈ lw_all := lw_g (lw_at lw_m1 168 rfl) rfl
theorem q244 : (Jvm.Cond.soleField "StepDebts$Reader" "begin") ∈ lw_all := lw_g (lw_at lw_m1 169 rfl) rfl
theorem q245 : (Jvm.Cond.lays "StepDebts$Reader" "StepDebts$Reader" "fault" "I") ∈ lw_all := lw_g (lw_at lw_m1 170 rfl) rfl
theorem q246 : (Jvm.Cond.soleField "StepDebts$Reader" "fault") ∈ lw_all := lw_g (lw_at lw_m1 171 rfl) rfl
theorem q247 : (Jvm.Cond.lays "StepDebts$Reader" "StepDebts$Reader" "deep" "I") ∈ lw_all := lw_g (lw_at lw_m1 172 rfl) rfl
theorem q248 : (Jvm.Cond.soleField "StepDebts$Reader" "deep") ∈ lw_all := lw_g (lw_at lw_m1 173 rfl) rfl
theorem q249 : (Jvm.Cond.superclass "StepDebts$Reader" "java/lang/Object") ∈ lw_all := lw_g (lw_at lw_m1 174 rfl) rfl
theorem q348 : (Jvm.Cond.instanceMethod ({ cls := "StepDebts$Reader", name := "add", desc := "([I)I" } : Jvm.MethodName)) ∈ lw_all := lw_g (lw_at lw_m2 33 rfl) rfl
theorem q349 : (Jvm.Cond.selects "StepDebts$Reader" ({ cls := "StepDebts$Reader", name := "add", desc := "([I)I" } : Jvm.MethodName) ({ cls := "StepDebts$Reader", name := "add", desc := "([I)I" } : Jvm.MethodName)) ∈ lw_all := lw_g (lw_at lw_m2 34 rfl) rfl
theorem q350 : (Jvm.Cond.code ({ cls := "StepDebts$Reader", name := "add", desc := "([I)I" } : Jvm.MethodName) prog_13_method_2_code (7 : Nat) (Option.some Jvm.ClassFile.FieldType.int)) ∈ lw_all := lw_g (lw_at lw_m2 35 rfl) rfl
theorem q356 : (Jvm.Cond.instanceMethod ({ cls := "StepDebts$Reader", name := "cut", desc := "(I)Z" } : Jvm.MethodName)) ∈ lw_all := lw_g (lw_at lw_m2 41 rfl) rfl
theorem q357 : (Jvm.Cond.selects "StepDebts$Reader" ({ cls := "StepDebts$Reader", name := "cut", desc := "(I)Z" } : Jvm.MethodName) ({ cls := "StepDebts$Reader", name := "cut", desc := "(I)Z" } : Jvm.MethodName)) ∈ lw_all := lw_g (lw_at lw_m2 42 rfl) rfl
theorem q358 : (Jvm.Cond.code ({ cls := "StepDebts$Reader", name := "cut", desc := "(I)Z" } : Jvm.MethodName) prog_13_method_3_code (2 : Nat) (Option.some Jvm.ClassFile.FieldType.boolean)) ∈ lw_all := lw_g (lw_at lw_m2 43 rfl) rfl
theorem q506 : (Jvm.Cond.selects "StepDebts$Reader" ({ cls := "java/lang/Object", name := "getClass", desc := "()Ljava/lang/Class;" } : Jvm.MethodName) ({ cls := "java/lang/Object", name := "getClass", desc := "()Ljava/lang/Class;" } : Jvm.MethodName)) ∈ lw_all := lw_g (lw_at lw_m2 191 rfl) rfl
theorem q655 : (Jvm.Cond.instanceMethod ({ cls := "StepDebts$Reader", name := "begins", desc := "()V" } : Jvm.MethodName)) ∈ lw_all := lw_g (lw_at lw_m3 100 rfl) rfl
theorem q656 : (Jvm.Cond.selects "StepDebts$Reader" ({ cls := "StepDebts$Reader", name := "begins", desc := "()V" } : Jvm.MethodName) ({ cls := "StepDebts$Reader", name := "begins", desc := "()V" } : Jvm.MethodName)) ∈ lw_all := lw_g (lw_at lw_m3 101 rfl) rfl
theorem q657 : (Jvm.Cond.code ({ cls := "StepDebts$Reader", name := "begins", desc := "()V" } : Jvm.MethodName) prog_13_method_4_code (1 : Nat) (Option.none : Option Jvm.ClassFile.FieldType)) ∈ lw_all := lw_g (lw_at lw_m3 102 rfl) rfl
theorem q663 : (Jvm.Cond.instanceMethod ({ cls := "StepDebts$Reader", name := "isOver", desc := "()Z" } : Jvm.MethodName)) ∈ lw_all := lw_g (lw_at lw_m3 108 rfl) rfl
theorem q664 : (Jvm.Cond.selects "StepDebts$Reader" ({ cls := "StepDebts$Reader", name := "isOver", desc := "()Z" } : Jvm.MethodName) ({ cls := "StepDebts$Reader", name := "isOver", desc := "()Z" } : Jvm.MethodName)) ∈ lw_all := lw_g (lw_at lw_m3 109 rfl) rfl
theorem q665 : (Jvm.Cond.code ({ cls := "StepDebts$Reader", name := "isOver", desc := "()Z" } : Jvm.MethodName) prog_13_method_7_code (1 : Nat) (Option.some Jvm.ClassFile.FieldType.boolean)) ∈ lw_all := lw_g (lw_at lw_m3 110 rfl) rfl
theorem q666 : (Jvm.Cond.methodLink "StepDebts$Reader" (38 : Nat) ({ cls := "StepDebts$Reader", name := "blanks", desc := "()V" } : Jvm.MethodName)) ∈ lw_all := lw_g (lw_at lw_m3 111 rfl) rfl
theorem q667 : (Jvm.Cond.instanceMethod ({ cls := "StepDebts$Reader", name := "blanks", desc := "()V" } : Jvm.MethodName)) ∈ lw_all := lw_g (lw_at lw_m3 112 rfl) rfl
theorem q668 : (Jvm.Cond.selects "StepDebts$Reader" ({ cls := "StepDebts$Reader", name := "blanks", desc := "()V" } : Jvm.MethodName) ({ cls := "StepDebts$Reader", name := "blanks", desc := "()V" } : Jvm.MethodName)) ∈ lw_all := lw_g (lw_at lw_m3 113 rfl) rfl
theorem q669 : (Jvm.Cond.code ({ cls := "StepDebts$Reader", name := "blanks", desc := "()V" } : Jvm.MethodName) prog_13_method_6_code (1 : Nat) (Option.none : Option Jvm.ClassFile.FieldType)) ∈ lw_all := lw_g (lw_at lw_m3 114 rfl) rfl
theorem q670 : (Jvm.Cond.methodLink "StepDebts$Reader" (31 : Nat) ({ cls := "StepDebts$Reader", name := "byteAt", desc := "(I)I" } : Jvm.MethodName)) ∈ lw_all := lw_g (lw_at lw_m3 115 rfl) rfl
theorem q671 : (Jvm.Cond.privateMethod ({ cls := "StepDebts$Reader", name := "byteAt", desc := "(I)I" } : Jvm.MethodName)) ∈ lw_tbl := lw_at lw_m3 116 rfl
theorem q672 : (Jvm.Cond.instanceMethod ({ cls := "StepDebts$Reader", name := "byteAt", desc := "(I)I" } : Jvm.MethodName)) ∈ lw_all := lw_g (lw_at lw_m3 117 rfl) rfl
theorem q673 : (Jvm.Cond.code ({ cls := "StepDebts$Reader", name := "byteAt", desc := "(I)I" } : Jvm.MethodName) prog_13_method_5_code (2 : Nat) (Option.some Jvm.ClassFile.FieldType.int)) ∈ lw_all := lw_g (lw_at lw_m3 118 rfl) rfl
theorem q679 : (Jvm.Cond.instanceMethod ({ cls := "StepDebts$Reader", name := "word", desc := "()Ljava/lang/String;" } : Jvm.MethodName)) ∈ lw_all := lw_g (lw_at lw_m3 124 rfl) rfl
theorem q680 : (Jvm.Cond.selects "StepDebts$Reader" ({ cls := "StepDebts$Reader", name := "word", desc := "()Ljava/lang/String;" } : Jvm.MethodName) ({ cls := "StepDebts$Reader", name := "word", desc := "()Ljava/lang/String;" } : Jvm.MethodName)) ∈ lw_all := lw_g (lw_at lw_m3 125 rfl) rfl
theorem q681 : (Jvm.Cond.code ({ cls := "StepDebts$Reader", name := "word", desc := "()Ljava/lang/String;" } : Jvm.MethodName) prog_13_method_8_code (3 : Nat) (Option.some (Jvm.ClassFile.FieldType.object "java/lang/String"))) ∈ lw_all := lw_g (lw_at lw_m3 126 rfl) rfl
theorem q682 : (Jvm.Cond.methodLinkNest "StepDebts$Reader" (41 : Nat) ({ cls := "StepDebts", name := "in", desc := "(III)Z" } : Jvm.MethodName) "StepDebts") ∈ lw_tbl := lw_at lw_m3 127 rfl
theorem q685 : (Jvm.Cond.classLink "StepDebts$Reader" (45 : Nat) "java/lang/StringBuilder") ∈ lw_all := lw_g (lw_at lw_m3 130 rfl) rfl
theorem q687 : (Jvm.Cond.methodLink "StepDebts$Reader" (47 : Nat) ({ cls := "java/lang/StringBuilder", name := "<init>", desc := "()V" } : Jvm.MethodName)) ∈ lw_all := lw_g (lw_at lw_m3 132 rfl) rfl
theorem q716 : (Jvm.Cond.methodLink "StepDebts$Reader" (48 : Nat) ({ cls := "java/lang/StringBuilder", name := "append", desc := "(C)Ljava/lang/StringBuilder;" } : Jvm.MethodName)) ∈ lw_all := lw_g (lw_at lw_m3 161 rfl) rfl
theorem q794 : (Jvm.Cond.methodLink "StepDebts$Reader" (52 : Nat) ({ cls := "java/lang/StringBuilder", name := "toString", desc := "()Ljava/lang/String;" } : Jvm.MethodName)) ∈ lw_all := lw_g (lw_at lw_m3 239 rfl) rfl
theorem q1003 : (Jvm.Cond.instanceMethod ({ cls := "StepDebts$Reader", name := "wrong", desc := "()LStepDebts$Wrong;" } : Jvm.MethodName)) ∈ lw_all := lw_g (lw_at lw_m4 208 rfl) rfl
theorem q1004 : (Jvm.Cond.selects "StepDebts$Reader" ({ cls := "StepDebts$Reader", name := "wrong", desc := "()LStepDebts$Wrong;" } : Jvm.MethodName) ({ cls := "StepDebts$Reader", name := "wrong", desc := "()LStepDebts$Wrong;" } : Jvm.MethodName)) ∈ lw_all := lw_g (lw_at lw_m4 209 rfl) rfl
theorem q1005 : (Jvm.Cond.code ({ cls := "StepDebts$Reader", name := "wrong", desc := "()LStepDebts$Wrong;" } : Jvm.MethodName) prog_13_method_15_code (1 : Nat) (Option.some (Jvm.ClassFile.FieldType.object "StepDebts$Wrong"))) ∈ lw_all := lw_g (lw_at lw_m4 210 rfl) rfl
theorem q1006 : (Jvm.Cond.classLink "StepDebts$Reader" (76 : Nat) "StepDebts$Wrong") ∈ lw_all := lw_g (lw_at lw_m4 211 rfl) rfl
theorem q1015 : (Jvm.Cond.methodLink "StepDebts$Reader" (78 : Nat) ({ cls := "StepDebts$Wrong", name := "<init>", desc := "()V" } : Jvm.MethodName)) ∈ lw_all := lw_g (lw_at lw_m4 220 rfl) rfl
theorem q1110 : (Jvm.Cond.instanceMethod ({ cls := "StepDebts$Reader", name := "figures", desc := "(III)I" } : Jvm.MethodName)) ∈ lw_all := lw_g (lw_at lw_m5 75 rfl) rfl
theorem q1111 : (Jvm.Cond.selects "StepDebts$Reader" ({ cls := "StepDebts$Reader", name := "figures", desc := "(III)I" } : Jvm.MethodName) ({ cls := "StepDebts$Reader", name := "figures", desc := "(III)I" } : Jvm.MethodName)) ∈ lw_all := lw_g (lw_at lw_m5 76 rfl) rfl
theorem q1112 : (Jvm.Cond.code ({ cls := "StepDebts$Reader", name := "figures", desc := "(III)I" } : Jvm.MethodName) prog_13_method_13_code (5 : Nat) (Option.some Jvm.ClassFile.FieldType.int)) ∈ lw_all := lw_g (lw_at lw_m5 77 rfl) rfl
theorem q1113 : (Jvm.Cond.methodLink "StepDebts$Reader" (69 : Nat) ({ cls := "StepDebts$Reader", name := "wrong", desc := "()LStepDebts$Wrong;" } : Jvm.MethodName)) ∈ lw_all := lw_g (lw_at lw_m5 78 rfl) rfl
theorem q1119 : (Jvm.Cond.instanceMethod ({ cls := "StepDebts$Reader", name := "number", desc := "(II)I" } : Jvm.MethodName)) ∈ lw_all := lw_g (lw_at lw_m5 84 rfl) rfl
theorem q1120 : (Jvm.Cond.selects "StepDebts$Reader" ({ cls := "StepDebts$Reader", name := "number", desc := "(II)I" } : Jvm.MethodName) ({ cls := "StepDebts$Reader", name := "number", desc := "(II)I" } : Jvm.MethodName)) ∈ lw_all := lw_g (lw_at lw_m5 85 rfl) rfl
theorem q1121 : (Jvm.Cond.code ({ cls := "StepDebts$Reader", name := "number", desc := "(II)I" } : Jvm.MethodName) prog_13_method_12_code (3 : Nat) (Option.some Jvm.ClassFile.FieldType.int)) ∈ lw_all := lw_g (lw_at lw_m5 86 rfl) rfl
theorem q1122 : (Jvm.Cond.methodLink "StepDebts$Reader" (65 : Nat) ({ cls := "StepDebts$Reader", name := "figures", desc := "(III)I" } : Jvm.MethodName)) ∈ lw_all := lw_g (lw_at lw_m5 87 rfl) rfl
theorem q1127 : (Jvm.Cond.instanceMethod ({ cls := "StepDebts$Reader", name := "passes", desc := "(Ljava/lang/String;)Z" } : Jvm.MethodName)) ∈ lw_all := lw_g (lw_at lw_m5 92 rfl) rfl
theorem q1128 : (Jvm.Cond.selects "StepDebts$Reader" ({ cls := "StepDebts$Reader", name := "passes", desc := "(Ljava/lang/String;)Z" } : Jvm.MethodName) ({ cls := "StepDebts$Reader", name := "passes", desc := "(Ljava/lang/String;)Z" } : Jvm.MethodName)) ∈ lw_all := lw_g (lw_at lw_m5 93 rfl) rfl
theorem q1129 : (Jvm.Cond.code ({ cls := "StepDebts$Reader", name := "passes", desc := "(Ljava/lang/String;)Z" } : Jvm.MethodName) prog_13_method_9_code (2 : Nat) (Option.some Jvm.ClassFile.FieldType.boolean)) ∈ lw_all := lw_g (lw_at lw_m5 94 rfl) rfl
theorem q1130 : (Jvm.Cond.methodLink "StepDebts$Reader" (56 : Nat) ({ cls := "StepDebts$Reader", name := "word", desc := "()Ljava/lang/String;" } : Jvm.MethodName)) ∈ lw_all := lw_g (lw_at lw_m5 95 rfl) rfl
theorem q1131 : (Jvm.Cond.methodLink "StepDebts$Reader" (59 : Nat) ({ cls := "java/lang/String", name := "equals", desc := "(Ljava/lang/Object;)Z" } : Jvm.MethodName)) ∈ lw_all := lw_g (lw_at lw_m5 96 rfl) rfl
theorem q1160 : (Jvm.Cond.instanceMethod ({ cls := "StepDebts$Reader", name := "sign", desc := "(I)Z" } : Jvm.MethodName)) ∈ lw_all := lw_g (lw_at lw_m5 125 rfl) rfl
theorem q1161 : (Jvm.Cond.selects "StepDebts$Reader" ({ cls := "StepDebts$Reader", name := "sign", desc := "(I)Z" } : Jvm.MethodName) ({ cls := "StepDebts$Reader", name := "sign", desc := "(I)Z" } : Jvm.MethodName)) ∈ lw_all := lw_g (lw_at lw_m5 126 rfl) rfl
theorem q1162 : (Jvm.Cond.code ({ cls := "StepDebts$Reader", name := "sign", desc := "(I)Z" } : Jvm.MethodName) prog_13_method_10_code (2 : Nat) (Option.some Jvm.ClassFile.FieldType.boolean)) ∈ lw_all := lw_g (lw_at lw_m5 127 rfl) rfl
theorem q1254 : (Jvm.Cond.instanceMethod ({ cls := "StepDebts$Reader", name := "goesDeeper", desc := "()V" } : Jvm.MethodName)) ∈ lw_all := lw_g (lw_at lw_m5 219 rfl) rfl
theorem q1255 : (Jvm.Cond.selects "StepDebts$Reader" ({ cls := "StepDebts$Reader", name := "goesDeeper", desc := "()V" } : Jvm.MethodName) ({ cls := "StepDebts$Reader", name := "goesDeeper", desc := "()V" } : Jvm.MethodName)) ∈ lw_all := lw_g (lw_at lw_m5 220 rfl) rfl
theorem q1256 : (Jvm.Cond.code ({ cls := "StepDebts$Reader", name := "goesDeeper", desc := "()V" } : Jvm.MethodName) prog_13_method_16_code (1 : Nat) (Option.none : Option Jvm.ClassFile.FieldType)) ∈ lw_all := lw_g (lw_at lw_m5 221 rfl) rfl
theorem q1258 : (Jvm.Cond.instanceMethod ({ cls := "StepDebts$Reader", name := "comesUp", desc := "()V" } : Jvm.MethodName)) ∈ lw_all := lw_g (lw_at lw_m5 223 rfl) rfl
theorem q1259 : (Jvm.Cond.selects "StepDebts$Reader" ({ cls := "StepDebts$Reader", name := "comesUp", desc := "()V" } : Jvm.MethodName) ({ cls := "StepDebts$Reader", name := "comesUp", desc := "()V" } : Jvm.MethodName)) ∈ lw_all := lw_g (lw_at lw_m5 224 rfl) rfl
theorem q1260 : (Jvm.Cond.code ({ cls := "StepDebts$Reader", name := "comesUp", desc := "()V" } : Jvm.MethodName) prog_13_method_17_code (1 : Nat) (Option.none : Option Jvm.ClassFile.FieldType)) ∈ lw_all := lw_g (lw_at lw_m5 225 rfl) rfl
theorem q1319 : (Jvm.Cond.instanceMethod ({ cls := "StepDebts$Reader", name := "isFigure", desc := "()Z" } : Jvm.MethodName)) ∈ lw_all := lw_g (lw_at lw_m6 44 rfl) rfl
theorem q1320 : (Jvm.Cond.selects "StepDebts$Reader" ({ cls := "StepDebts$Reader", name := "isFigure", desc := "()Z" } : Jvm.MethodName) ({ cls := "StepDebts$Reader", name := "isFigure", desc := "()Z" } : Jvm.MethodName)) ∈ lw_all := lw_g (lw_at lw_m6 45 rfl) rfl
theorem q1321 : (Jvm.Cond.code ({ cls := "StepDebts$Reader", name := "isFigure", desc := "()Z" } : Jvm.MethodName) prog_13_method_11_code (1 : Nat) (Option.some Jvm.ClassFile.FieldType.boolean)) ∈ lw_all := lw_g (lw_at lw_m6 46 rfl) rfl
theorem q2177 : (Jvm.Cond.castable "StepDebts$Reader" "java/lang/Object") ∈ lw_tbl := lw_at lw_m9 182 rfl
theorem in_X3 : ∀ w ∈ wsX30, w ∈ lw_all := lw_in wsX30 [235, 237, 239, 241, 243, 245, 247] (by decide +kernel) (by decide +kernel)
/-! StepDebts$Scene -/
set_option maxRecDepth 100000
def RX4 : String := "StepDebts$Scene"
def TX4 : u_T := fun k => match k with
  | 0 => ("StepDebts$Scene", "sort", "I", false)
  | 1 => ("StepDebts$Scene", "age", "I", false)
  | 2 => ("StepDebts$Scene", "wear", "I", false)
  | 3 => ("StepDebts$Scene", "paces", "I", false)
  | 4 => ("StepDebts$Scene", "day", "I", false)
  | 5 => ("StepDebts$Scene", "night", "Z", false)
  | _ => ("StepDebts$Scene", "own", "Z", false)
def tyX4 : Nat → FieldType := fun k => match k with
  | 0 => .int
  | 1 => .int
  | 2 => .int
  | 3 => .int
  | 4 => .int
  | 5 => .boolean
  | _ => .boolean
abbrev wsX40 : List Cond := u_ws RX4 TX4 7
theorem nmX4 : ∀ a, a < 7 → ∀ b, b < 7 → a ≠ b → (TX4 a).2.1 ≠ (TX4 b).2.1 := by decide +kernel
theorem tyX4_ok : ∀ k, k < 7 → parseFieldDescriptor (TX4 k).2.2.1 = some (tyX4 k) := by decide +kernel
abbrev cX4_init : ByteArray := prog_15_method_1_code
def yX4_init : MethodName := ⟨RX4, "<init>", "()V"⟩
theorem dX4_init_0 : decode cX4_init 0 = .ok (.aload_n 0, 1) := by decide +kernel
theorem dX4_init_1 : decode cX4_init 1 = .ok (.invokespecial 1, 3) := by decide +kernel
theorem dX4_init_4 : decode cX4_init 4 = .ok (.return_, 1) := by decide +kernel
abbrev cX4_is : ByteArray := prog_15_method_3_code
def yX4_is : MethodName := ⟨RX4, "is", "(LStepDebts$Tag;)Z"⟩
def dkwX4_is_1 : List UInt8 := [180, 0, 41, 167, 0, 19, 42, 180, 0, 44, 43, 182, 0, 47, 160, 0, 7, 4, 167, 0, 4, 3, 172]
abbrev dktX4_is_1 : List UInt8 := dkwX4_is_1 ++ []
def dkwX4_is_0 : List UInt8 := [43, 178, 0, 28, 166, 0, 10, 42, 180, 0, 34, 167, 0, 33, 43, 178, 0, 38, 166, 0, 10, 42]
abbrev dktX4_is_0 : List UInt8 := dkwX4_is_0 ++ dktX4_is_1
theorem dksX4_is_0 : cX4_is.data.toList.drop 0 = dktX4_is_0 := by decide +kernel
theorem dksX4_is_1 : cX4_is.data.toList.drop 22 = dktX4_is_1 := dk_seg dksX4_is_0 22 rfl rfl
theorem dX4_is_0 : decode cX4_is 0 = .ok (.aload_n 1, 1) := dk_43 (dk_at dksX4_is_0 0 rfl rfl)
theorem dX4_is_1 : decode cX4_is 1 = .ok (.getstatic 28, 3) := dk_178 0 28 (dk_at dksX4_is_0 1 rfl rfl)
theorem dX4_is_4 : decode cX4_is 4 = .ok (.if_acmp .ne 10, 3) := dk_166 0 10 (dk_at dksX4_is_0 4 rfl rfl)
theorem dX4_is_7 : decode cX4_is 7 = .ok (.aload_n 0, 1) := dk_42 (dk_at dksX4_is_0 7 rfl rfl)
theorem dX4_is_8 : decode cX4_is 8 = .ok (.getfield 34, 3) := dk_180 0 34 (dk_at dksX4_is_0 8 rfl rfl)
theorem dX4_is_11 : decode cX4_is 11 = .ok (.goto 33, 3) := dk_167 0 33 (dk_at dksX4_is_0 11 rfl rfl)
theorem dX4_is_14 : decode cX4_is 14 = .ok (.aload_n 1, 1) := dk_43 (dk_at dksX4_is_0 14 rfl rfl)
theorem dX4_is_15 : decode cX4_is 15 = .ok (.getstatic 38, 3) := dk_178 0 38 (dk_at dksX4_is_0 15 rfl rfl)
theorem dX4_is_18 : decode cX4_is 18 = .ok (.if_acmp .ne 10, 3) := dk_166 0 10 (dk_at dksX4_is_0 18 rfl rfl)
theorem dX4_is_21 : decode cX4_is 21 = .ok (.aload_n 0, 1) := dk_42 (dk_at dksX4_is_0 21 rfl rfl)
theorem dX4_is_22 : decode cX4_is 22 = .ok (.getfield 41, 3) := dk_180 0 41 (dk_at dksX4_is_1 0 rfl rfl)
theorem dX4_is_25 : decode cX4_is 25 = .ok (.goto 19, 3) := dk_167 0 19 (dk_at dksX4_is_1 3 rfl rfl)
theorem dX4_is_28 : decode cX4_is 28 = .ok (.aload_n 0, 1) := dk_42 (dk_at dksX4_is_1 6 rfl rfl)
theorem dX4_is_29 : decode cX4_is 29 = .ok (.getfield 44, 3) := dk_180 0 44 (dk_at dksX4_is_1 7 rfl rfl)
theorem dX4_is_32 : decode cX4_is 32 = .ok (.aload_n 1, 1) := dk_43 (dk_at dksX4_is_1 10 rfl rfl)
theorem dX4_is_33 : decode cX4_is 33 = .ok (.invokevirtual 47, 3) := dk_182 0 47 (dk_at dksX4_is_1 11 rfl rfl)
theorem dX4_is_36 : decode cX4_is 36 = .ok (.if_icmp .ne 7, 3) := dk_160 0 7 (dk_at dksX4_is_1 14 rfl rfl)
theorem dX4_is_39 : decode cX4_is 39 = .ok (.iconst 1, 1) := dk_4 (dk_at dksX4_is_1 17 rfl rfl)
theorem dX4_is_40 : decode cX4_is 40 = .ok (.goto 4, 3) := dk_167 0 4 (dk_at dksX4_is_1 18 rfl rfl)
theorem dX4_is_43 : decode cX4_is 43 = .ok (.iconst 0, 1) := dk_3 (dk_at dksX4_is_1 21 rfl rfl)
theorem dX4_is_44 : decode cX4_is 44 = .ok (.ireturn, 1) := dk_172 (dk_at dksX4_is_1 22 rfl rfl)
abbrev cX4_of : ByteArray := prog_15_method_2_code
def yX4_of : MethodName := ⟨RX4, "of", "(LStepDebts$Fact;)I"⟩
def dkwX4_of_2 : List UInt8 := [42, 180, 0, 13, 172, 42, 180, 0, 19, 172, 42, 180, 0, 22, 172, 42, 180, 0, 25, 172]
abbrev dktX4_of_2 : List UInt8 := dkwX4_of_2 ++ []
def dkwX4_of_1 : List UInt8 := [170, 0, 0, 0, 0, 0, 0, 43, 0, 0, 0, 0, 0, 0, 0, 2, 0, 0, 0, 28, 0, 0, 0, 33, 0, 0, 0, 38]
abbrev dktX4_of_1 : List UInt8 := dkwX4_of_1 ++ dktX4_of_2
def dkwX4_of_0 : List UInt8 := [43, 182, 0, 7]
abbrev dktX4_of_0 : List UInt8 := dkwX4_of_0 ++ dktX4_of_1
theorem dksX4_of_0 : cX4_of.data.toList.drop 0 = dktX4_of_0 := by decide +kernel
theorem dksX4_of_1 : cX4_of.data.toList.drop 4 = dktX4_of_1 := dk_seg dksX4_of_0 4 rfl rfl
theorem dksX4_of_2 : cX4_of.data.toList.drop 32 = dktX4_of_2 := dk_seg dksX4_of_1 28 rfl rfl
theorem dX4_of_0 : decode cX4_of 0 = .ok (.aload_n 1, 1) := dk_43 (dk_at dksX4_of_0 0 rfl rfl)
theorem dX4_of_1 : decode cX4_of 1 = .ok (.invokevirtual 7, 3) := dk_182 0 7 (dk_at dksX4_of_0 1 rfl rfl)
theorem dX4_of_4 : decode cX4_of 4 = .ok (.tableswitch 43 0 2 #[28, 33, 38], 28) := by decide +kernel
theorem dX4_of_32 : decode cX4_of 32 = .ok (.aload_n 0, 1) := dk_42 (dk_at dksX4_of_2 0 rfl rfl)
theorem dX4_of_33 : decode cX4_of 33 = .ok (.getfield 13, 3) := dk_180 0 13 (dk_at dksX4_of_2 1 rfl rfl)
theorem dX4_of_36 : decode cX4_of 36 = .ok (.ireturn, 1) := dk_172 (dk_at dksX4_of_2 4 rfl rfl)
theorem dX4_of_37 : decode cX4_of 37 = .ok (.aload_n 0, 1) := dk_42 (dk_at dksX4_of_2 5 rfl rfl)
theorem dX4_of_38 : decode cX4_of 38 = .ok (.getfield 19, 3) := dk_180 0 19 (dk_at dksX4_of_2 6 rfl rfl)
theorem dX4_of_41 : decode cX4_of 41 = .ok (.ireturn, 1) := dk_172 (dk_at dksX4_of_2 9 rfl rfl)
theorem dX4_of_42 : decode cX4_of 42 = .ok (.aload_n 0, 1) := dk_42 (dk_at dksX4_of_2 10 rfl rfl)
theorem dX4_of_43 : decode cX4_of 43 = .ok (.getfield 22, 3) := dk_180 0 22 (dk_at dksX4_of_2 11 rfl rfl)
theorem dX4_of_46 : decode cX4_of 46 = .ok (.ireturn, 1) := dk_172 (dk_at dksX4_of_2 14 rfl rfl)
theorem dX4_of_47 : decode cX4_of 47 = .ok (.aload_n 0, 1) := dk_42 (dk_at dksX4_of_2 15 rfl rfl)
theorem dX4_of_48 : decode cX4_of 48 = .ok (.getfield 25, 3) := dk_180 0 25 (dk_at dksX4_of_2 16 rfl rfl)
theorem dX4_of_51 : decode cX4_of 51 = .ok (.ireturn, 1) := dk_172 (dk_at dksX4_of_2 19 rfl rfl)
theorem q82 : (Jvm.Cond.initialized "StepDebts$Scene") ∈ lw_all := lw_g (lw_at lw_m1 7 rfl) rfl
theorem q252 : (Jvm.Cond.instantiable "StepDebts$Scene" (7 : Nat)) ∈ lw_all := lw_g (lw_at lw_m1 177 rfl) rfl
theorem q254 : (Jvm.Cond.instanceMethod ({ cls := "StepDebts$Scene", name := "<init>", desc := "()V" } : Jvm.MethodName)) ∈ lw_all := lw_g (lw_at lw_m1 179 rfl) rfl
theorem q255 : (Jvm.Cond.code ({ cls := "StepDebts$Scene", name := "<init>", desc := "()V" } : Jvm.MethodName) prog_15_method_1_code (1 : Nat) (Option.none : Option Jvm.ClassFile.FieldType)) ∈ lw_all := lw_g (lw_at lw_m1 180 rfl) rfl
theorem q256 : (Jvm.Cond.methodLink "StepDebts$Scene" (1 : Nat) ({ cls := "java/lang/Object", name := "<init>", desc := "()V" } : Jvm.MethodName)) ∈ lw_all := lw_g (lw_at lw_m1 181 rfl) rfl
theorem q257 : (Jvm.Cond.fieldLink "StepDebts$Scene" (44 : Nat) "StepDebts$Scene" "sort" "I") ∈ lw_all := lw_g (lw_at lw_m1 182 rfl) rfl
theorem q259 : (Jvm.Cond.fieldLink "StepDebts$Scene" (13 : Nat) "StepDebts$Scene" "age" "I") ∈ lw_all := lw_g (lw_at lw_m1 184 rfl) rfl
theorem q261 : (Jvm.Cond.fieldLink "StepDebts$Scene" (19 : Nat) "StepDebts$Scene" "wear" "I") ∈ lw_all := lw_g (lw_at lw_m1 186 rfl) rfl
theorem q263 : (Jvm.Cond.fieldLink "StepDebts$Scene" (22 : Nat) "StepDebts$Scene" "paces" "I") ∈ lw_all := lw_g (lw_at lw_m1 188 rfl) rfl
theorem q265 : (Jvm.Cond.fieldLink "StepDebts$Scene" (25 : Nat) "StepDebts$Scene" "day" "I") ∈ lw_all := lw_g (lw_at lw_m1 190 rfl) rfl
theorem q267 : (Jvm.Cond.fieldLink "StepDebts$Scene" (34 : Nat) "StepDebts$Scene" "night" "Z") ∈ lw_all := lw_g (lw_at lw_m1 192 rfl) rfl
theorem q269 : (Jvm.Cond.fieldLink "StepDebts$Scene" (41 : Nat) "StepDebts$Scene" "own" "Z") ∈ lw_all := lw_g (lw_at lw_m1 194 rfl) rfl
theorem q271 : (Jvm.Cond.lays "StepDebts$Scene" "StepDebts$Scene" "sort" "I") ∈ lw_all := lw_g (lw_at lw_m1 196 rfl) rfl
theorem q272 : (Jvm.Cond.soleField "StepDebts$Scene" "sort") ∈ lw_all := lw_g (lw_at lw_m1 197 rfl) rfl
theorem q273 : (Jvm.Cond.lays "StepDebts$Scene" "StepDebts$Scene" "age" "I") ∈ lw_all := lw_g (lw_at lw_m1 198 rfl) rfl
theorem q274 : (Jvm.Cond.soleField "StepDebts$Scene" "age") ∈ lw_all := lw_g (lw_at lw_m1 199 rfl) rfl
theorem q275 : (Jvm.Cond.lays "StepDebts$Scene" "StepDebts$Scene" "wear" "I") ∈ lw_all := lw_g (lw_at lw_m1 200 rfl) rfl
theorem q276 : (Jvm.Cond.soleField "StepDebts$Scene" "wear") ∈ lw_all := lw_g (lw_at lw_m1 201 rfl) rfl
theorem q277 : (Jvm.Cond.lays "StepDebts$Scene" "StepDebts$Scene" "paces" "I") ∈ lw_all := lw_g (lw_at lw_m1 202 rfl) rfl
theorem q278 : (Jvm.Cond.soleField "StepDebts$Scene" "paces") ∈ lw_all := lw_g (lw_at lw_m1 203 rfl) rfl
theorem q279 : (Jvm.Cond.lays "StepDebts$Scene" "StepDebts$Scene" "day" "I") ∈ lw_all := lw_g (lw_at lw_m1 204 rfl) rfl
theorem q280 : (Jvm.Cond.soleField "StepDebts$Scene" "day") ∈ lw_all := lw_g (lw_at lw_m1 205 rfl) rfl
theorem q281 : (Jvm.Cond.lays "StepDebts$Scene" "StepDebts$Scene" "night" "Z") ∈ lw_all := lw_g (lw_at lw_m1 206 rfl) rfl
theorem q282 : (Jvm.Cond.soleField "StepDebts$Scene" "night") ∈ lw_all := lw_g (lw_at lw_m1 207 rfl) rfl
theorem q283 : (Jvm.Cond.lays "StepDebts$Scene" "StepDebts$Scene" "own" "Z") ∈ lw_all := lw_g (lw_at lw_m1 208 rfl) rfl
theorem q284 : (Jvm.Cond.soleField "StepDebts$Scene" "own") ∈ lw_all := lw_g (lw_at lw_m1 209 rfl) rfl
theorem q285 : (Jvm.Cond.superclass "StepDebts$Scene" "java/lang/Object") ∈ lw_all := lw_g (lw_at lw_m1 210 rfl) rfl
theorem q508 : (Jvm.Cond.selects "StepDebts$Scene" ({ cls := "java/lang/Object", name := "getClass", desc := "()Ljava/lang/Class;" } : Jvm.MethodName) ({ cls := "java/lang/Object", name := "getClass", desc := "()Ljava/lang/Class;" } : Jvm.MethodName)) ∈ lw_all := lw_g (lw_at lw_m2 193 rfl) rfl
theorem q1515 : (Jvm.Cond.instanceMethod ({ cls := "StepDebts$Scene", name := "is", desc := "(LStepDebts$Tag;)Z" } : Jvm.MethodName)) ∈ lw_all := lw_g (lw_at lw_m7 0 rfl) rfl
theorem q1516 : (Jvm.Cond.selects "StepDebts$Scene" ({ cls := "StepDebts$Scene", name := "is", desc := "(LStepDebts$Tag;)Z" } : Jvm.MethodName) ({ cls := "StepDebts$Scene", name := "is", desc := "(LStepDebts$Tag;)Z" } : Jvm.MethodName)) ∈ lw_all := lw_g (lw_at lw_m7 1 rfl) rfl
theorem q1517 : (Jvm.Cond.code ({ cls := "StepDebts$Scene", name := "is", desc := "(LStepDebts$Tag;)Z" } : Jvm.MethodName) prog_15_method_3_code (2 : Nat) (Option.some Jvm.ClassFile.FieldType.boolean)) ∈ lw_all := lw_g (lw_at lw_m7 2 rfl) rfl
theorem q1518 : (Jvm.Cond.fieldLink "StepDebts$Scene" (28 : Nat) "StepDebts$Tag" "NIGHT" "LStepDebts$Tag;") ∈ lw_all := lw_g (lw_at lw_m7 3 rfl) rfl
theorem q1520 : (Jvm.Cond.fieldLink "StepDebts$Scene" (38 : Nat) "StepDebts$Tag" "OWN" "LStepDebts$Tag;") ∈ lw_all := lw_g (lw_at lw_m7 5 rfl) rfl
theorem q1522 : (Jvm.Cond.methodLink "StepDebts$Scene" (47 : Nat) ({ cls := "StepDebts$Tag", name := "ordinal", desc := "()I" } : Jvm.MethodName)) ∈ lw_all := lw_g (lw_at lw_m7 7 rfl) rfl
theorem q1546 : (Jvm.Cond.instanceMethod ({ cls := "StepDebts$Scene", name := "of", desc := "(LStepDebts$Fact;)I" } : Jvm.MethodName)) ∈ lw_all := lw_g (lw_at lw_m7 31 rfl) rfl
theorem q1547 : (Jvm.Cond.selects "StepDebts$Scene" ({ cls := "StepDebts$Scene", name := "of", desc := "(LStepDebts$Fact;)I" } : Jvm.MethodName) ({ cls := "StepDebts$Scene", name := "of", desc := "(LStepDebts$Fact;)I" } : Jvm.MethodName)) ∈ lw_all := lw_g (lw_at lw_m7 32 rfl) rfl
theorem q1548 : (Jvm.Cond.code ({ cls := "StepDebts$Scene", name := "of", desc := "(LStepDebts$Fact;)I" } : Jvm.MethodName) prog_15_method_2_code (2 : Nat) (Option.some Jvm.ClassFile.FieldType.int)) ∈ lw_all := lw_g (lw_at lw_m7 33 rfl) rfl
theorem q1549 : (Jvm.Cond.methodLink "StepDebts$Scene" (7 : Nat) ({ cls := "StepDebts$Fact", name := "ordinal", desc := "()I" } : Jvm.MethodName)) ∈ lw_all := lw_g (lw_at lw_m7 34 rfl) rfl
theorem q2178 : (Jvm.Cond.castable "StepDebts$Scene" "java/lang/Object") ∈ lw_tbl := lw_at lw_m9 183 rfl
theorem in_X4 : ∀ w ∈ wsX40, w ∈ lw_all := lw_in wsX40 [271, 273, 275, 277, 279, 281, 283] (by decide +kernel) (by decide +kernel)
/-! StepDebts$Plan -/
set_option maxRecDepth 100000
def RX5 : String := "StepDebts$Plan"
def TX5 : u_T := fun k => match k with
  | 0 => ("StepDebts$Plan", "counts", "[I", true)
  | 1 => ("StepDebts$Plan", "sums", "[I", true)
  | 2 => ("StepDebts$Plan", "now", "[I", false)
  | 3 => ("StepDebts$Plan", "next", "[I", false)
  | 4 => ("StepDebts$Plan", "many", "I", false)
  | 5 => ("StepDebts$Plan", "base", "I", false)
  | 6 => ("StepDebts$Plan", "line", "I", false)
  | 7 => ("StepDebts$Plan", "days", "I", false)
  | _ => ("StepDebts$Plan", "this$0", "LStepDebts;", true)
def tyX5 : Nat → FieldType := fun k => match k with
  | 0 => .array .int
  | 1 => .array .int
  | 2 => .array .int
  | 3 => .array .int
  | 4 => .int
  | 5 => .int
  | 6 => .int
  | 7 => .int
  | _ => .object "StepDebts"
abbrev wsX50 : List Cond := u_ws RX5 TX5 9
theorem nmX5 : ∀ a, a < 9 → ∀ b, b < 9 → a ≠ b → (TX5 a).2.1 ≠ (TX5 b).2.1 := by decide +kernel
theorem tyX5_ok : ∀ k, k < 9 → parseFieldDescriptor (TX5 k).2.2.1 = some (tyX5 k) := by decide +kernel
abbrev cX5_init : ByteArray := prog_12_method_1_code
def yX5_init : MethodName := ⟨RX5, "<init>", "(LStepDebts;)V"⟩
def dkwX5_init_1 : List UInt8 := [181, 0, 19, 42, 17, 16, 0, 188, 10, 181, 0, 22, 42, 17, 16, 0, 188, 10, 181, 0, 25, 177]
abbrev dktX5_init_1 : List UInt8 := dkwX5_init_1 ++ []
def dkwX5_init_0 : List UInt8 := [42, 43, 181, 0, 3, 42, 183, 0, 9, 42, 16, 6, 188, 10, 181, 0, 15, 42, 16, 64, 188, 10]
abbrev dktX5_init_0 : List UInt8 := dkwX5_init_0 ++ dktX5_init_1
theorem dksX5_init_0 : cX5_init.data.toList.drop 0 = dktX5_init_0 := by decide +kernel
theorem dksX5_init_1 : cX5_init.data.toList.drop 22 = dktX5_init_1 := dk_seg dksX5_init_0 22 rfl rfl
theorem dX5_init_0 : decode cX5_init 0 = .ok (.aload_n 0, 1) := dk_42 (dk_at dksX5_init_0 0 rfl rfl)
theorem dX5_init_1 : decode cX5_init 1 = .ok (.aload_n 1, 1) := dk_43 (dk_at dksX5_init_0 1 rfl rfl)
theorem dX5_init_2 : decode cX5_init 2 = .ok (.putfield 3, 3) := dk_181 0 3 (dk_at dksX5_init_0 2 rfl rfl)
theorem dX5_init_5 : decode cX5_init 5 = .ok (.aload_n 0, 1) := dk_42 (dk_at dksX5_init_0 5 rfl rfl)
theorem dX5_init_6 : decode cX5_init 6 = .ok (.invokespecial 9, 3) := dk_183 0 9 (dk_at dksX5_init_0 6 rfl rfl)
theorem dX5_init_9 : decode cX5_init 9 = .ok (.aload_n 0, 1) := dk_42 (dk_at dksX5_init_0 9 rfl rfl)
theorem dX5_init_10 : decode cX5_init 10 = .ok (.bipush 6, 2) := dk_16 6 (dk_at dksX5_init_0 10 rfl rfl)
theorem dX5_init_12 : decode cX5_init 12 = .ok (.newarray .int, 2) := dk_188_10 (dk_at dksX5_init_0 12 rfl rfl)
theorem dX5_init_14 : decode cX5_init 14 = .ok (.putfield 15, 3) := dk_181 0 15 (dk_at dksX5_init_0 14 rfl rfl)
theorem dX5_init_17 : decode cX5_init 17 = .ok (.aload_n 0, 1) := dk_42 (dk_at dksX5_init_0 17 rfl rfl)
theorem dX5_init_18 : decode cX5_init 18 = .ok (.bipush 64, 2) := dk_16 64 (dk_at dksX5_init_0 18 rfl rfl)
theorem dX5_init_20 : decode cX5_init 20 = .ok (.newarray .int, 2) := dk_188_10 (dk_at dksX5_init_0 20 rfl rfl)
theorem dX5_init_22 : decode cX5_init 22 = .ok (.putfield 19, 3) := dk_181 0 19 (dk_at dksX5_init_1 0 rfl rfl)
theorem dX5_init_25 : decode cX5_init 25 = .ok (.aload_n 0, 1) := dk_42 (dk_at dksX5_init_1 3 rfl rfl)
theorem dX5_init_26 : decode cX5_init 26 = .ok (.sipush 4096, 3) := dk_17 16 0 (dk_at dksX5_init_1 4 rfl rfl)
theorem dX5_init_29 : decode cX5_init 29 = .ok (.newarray .int, 2) := dk_188_10 (dk_at dksX5_init_1 7 rfl rfl)
theorem dX5_init_31 : decode cX5_init 31 = .ok (.putfield 22, 3) := dk_181 0 22 (dk_at dksX5_init_1 9 rfl rfl)
theorem dX5_init_34 : decode cX5_init 34 = .ok (.aload_n 0, 1) := dk_42 (dk_at dksX5_init_1 12 rfl rfl)
theorem dX5_init_35 : decode cX5_init 35 = .ok (.sipush 4096, 3) := dk_17 16 0 (dk_at dksX5_init_1 13 rfl rfl)
theorem dX5_init_38 : decode cX5_init 38 = .ok (.newarray .int, 2) := dk_188_10 (dk_at dksX5_init_1 16 rfl rfl)
theorem dX5_init_40 : decode cX5_init 40 = .ok (.putfield 25, 3) := dk_181 0 25 (dk_at dksX5_init_1 18 rfl rfl)
theorem dX5_init_43 : decode cX5_init 43 = .ok (.return_, 1) := dk_177 (dk_at dksX5_init_1 21 rfl rfl)
abbrev cX5_begins : ByteArray := prog_12_method_2_code
def yX5_begins : MethodName := ⟨RX5, "begins", "(II)V"⟩
def dkwX5_begins_8 : List UInt8 := [132, 4, 1, 167, 255, 221, 132, 3, 1, 167, 255, 195, 177]
abbrev dktX5_begins_8 : List UInt8 := dkwX5_begins_8 ++ []
def dkwX5_begins_7 : List UInt8 := [180, 0, 19, 29, 92, 46, 29, 21, 4, 122, 4, 126, 42, 180, 0, 15, 21, 4, 46, 104, 96, 79]
abbrev dktX5_begins_7 : List UInt8 := dkwX5_begins_7 ++ dktX5_begins_8
def dkwX5_begins_6 : List UInt8 := [162, 0, 57, 42, 180, 0, 19, 29, 3, 79, 3, 54, 4, 21, 4, 42, 180, 0, 28, 162, 0, 32, 42]
abbrev dktX5_begins_6 : List UInt8 := dkwX5_begins_6 ++ dktX5_begins_7
def dkwX5_begins_5 : List UInt8 := [89, 180, 0, 28, 4, 96, 181, 0, 28, 132, 3, 1, 167, 255, 158, 3, 62, 29, 4, 42, 180, 0, 28, 120]
abbrev dktX5_begins_5 : List UInt8 := dkwX5_begins_5 ++ dktX5_begins_6
def dkwX5_begins_4 : List UInt8 := [180, 0, 3, 29, 27, 42, 180, 0, 3, 180, 0, 32, 180, 0, 66, 182, 0, 51, 3, 182, 0, 69, 79, 42]
abbrev dktX5_begins_4 : List UInt8 := dkwX5_begins_4 ++ dktX5_begins_5
def dkwX5_begins_3 : List UInt8 := [192, 0, 61, 180, 0, 63, 27, 159, 0, 6, 167, 0, 45, 42, 180, 0, 15, 42, 180, 0, 28, 42]
abbrev dktX5_begins_3 : List UInt8 := dkwX5_begins_3 ++ dktX5_begins_4
def dkwX5_begins_2 : List UInt8 := [180, 0, 28, 16, 6, 162, 0, 78, 42, 180, 0, 3, 180, 0, 32, 180, 0, 47, 29, 182, 0, 57]
abbrev dktX5_begins_2 : List UInt8 := dkwX5_begins_2 ++ dktX5_begins_3
def dkwX5_begins_1 : List UInt8 := [181, 0, 44, 3, 62, 29, 42, 180, 0, 3, 180, 0, 32, 180, 0, 47, 182, 0, 51, 162, 0, 87, 42]
abbrev dktX5_begins_1 : List UInt8 := dkwX5_begins_1 ++ dktX5_begins_2
def dkwX5_begins_0 : List UInt8 := [42, 3, 181, 0, 28, 42, 42, 180, 0, 3, 180, 0, 32, 180, 0, 36, 4, 96, 181, 0, 41, 42, 28]
abbrev dktX5_begins_0 : List UInt8 := dkwX5_begins_0 ++ dktX5_begins_1
theorem dksX5_begins_0 : cX5_begins.data.toList.drop 0 = dktX5_begins_0 := by decide +kernel
theorem dksX5_begins_1 : cX5_begins.data.toList.drop 23 = dktX5_begins_1 := dk_seg dksX5_begins_0 23 rfl rfl
theorem dksX5_begins_2 : cX5_begins.data.toList.drop 46 = dktX5_begins_2 := dk_seg dksX5_begins_1 23 rfl rfl
theorem dksX5_begins_3 : cX5_begins.data.toList.drop 68 = dktX5_begins_3 := dk_seg dksX5_begins_2 22 rfl rfl
theorem dksX5_begins_4 : cX5_begins.data.toList.drop 90 = dktX5_begins_4 := dk_seg dksX5_begins_3 22 rfl rfl
theorem dksX5_begins_5 : cX5_begins.data.toList.drop 114 = dktX5_begins_5 := dk_seg dksX5_begins_4 24 rfl rfl
theorem dksX5_begins_6 : cX5_begins.data.toList.drop 138 = dktX5_begins_6 := dk_seg dksX5_begins_5 24 rfl rfl
theorem dksX5_begins_7 : cX5_begins.data.toList.drop 161 = dktX5_begins_7 := dk_seg dksX5_begins_6 23 rfl rfl
theorem dksX5_begins_8 : cX5_begins.data.toList.drop 183 = dktX5_begins_8 := dk_seg dksX5_begins_7 22 rfl rfl
theorem dX5_begins_0 : decode cX5_begins 0 = .ok (.aload_n 0, 1) := dk_42 (dk_at dksX5_begins_0 0 rfl rfl)
theorem dX5_begins_1 : decode cX5_begins 1 = .ok (.iconst 0, 1) := dk_3 (dk_at dksX5_begins_0 1 rfl rfl)
theorem dX5_begins_2 : decode cX5_begins 2 = .ok (.putfield 28, 3) := dk_181 0 28 (dk_at dksX5_begins_0 2 rfl rfl)
theorem dX5_begins_5 : decode cX5_begins 5 = .ok (.aload_n 0, 1) := dk_42 (dk_at dksX5_begins_0 5 rfl rfl)
theorem dX5_begins_6 : decode cX5_begins 6 = .ok (.aload_n 0, 1) := dk_42 (dk_at dksX5_begins_0 6 rfl rfl)
theorem dX5_begins_7 : decode cX5_begins 7 = .ok (.getfield 3, 3) := dk_180 0 3 (dk_at dksX5_begins_0 7 rfl rfl)
theorem dX5_begins_10 : decode cX5_begins 10 = .ok (.getfield 32, 3) := dk_180 0 32 (dk_at dksX5_begins_0 10 rfl rfl)
theorem dX5_begins_13 : decode cX5_begins 13 = .ok (.getfield 36, 3) := dk_180 0 36 (dk_at dksX5_begins_0 13 rfl rfl)
theorem dX5_begins_16 : decode cX5_begins 16 = .ok (.iconst 1, 1) := dk_4 (dk_at dksX5_begins_0 16 rfl rfl)
theorem dX5_begins_17 : decode cX5_begins 17 = .ok (.iadd, 1) := dk_96 (dk_at dksX5_begins_0 17 rfl rfl)
theorem dX5_begins_18 : decode cX5_begins 18 = .ok (.putfield 41, 3) := dk_181 0 41 (dk_at dksX5_begins_0 18 rfl rfl)
theorem dX5_begins_21 : decode cX5_begins 21 = .ok (.aload_n 0, 1) := dk_42 (dk_at dksX5_begins_0 21 rfl rfl)
theorem dX5_begins_22 : decode cX5_begins 22 = .ok (.iload_n 2, 1) := dk_28 (dk_at dksX5_begins_0 22 rfl rfl)
theorem dX5_begins_23 : decode cX5_begins 23 = .ok (.putfield 44, 3) := dk_181 0 44 (dk_at dksX5_begins_1 0 rfl rfl)
theorem dX5_begins_26 : decode cX5_begins 26 = .ok (.iconst 0, 1) := dk_3 (dk_at dksX5_begins_1 3 rfl rfl)
theorem dX5_begins_27 : decode cX5_begins 27 = .ok (.istore_n 3, 1) := dk_62 (dk_at dksX5_begins_1 4 rfl rfl)
theorem dX5_begins_28 : decode cX5_begins 28 = .ok (.iload_n 3, 1) := dk_29 (dk_at dksX5_begins_1 5 rfl rfl)
theorem dX5_begins_29 : decode cX5_begins 29 = .ok (.aload_n 0, 1) := dk_42 (dk_at dksX5_begins_1 6 rfl rfl)
theorem dX5_begins_30 : decode cX5_begins 30 = .ok (.getfield 3, 3) := dk_180 0 3 (dk_at dksX5_begins_1 7 rfl rfl)
theorem dX5_begins_33 : decode cX5_begins 33 = .ok (.getfield 32, 3) := dk_180 0 32 (dk_at dksX5_begins_1 10 rfl rfl)
theorem dX5_begins_36 : decode cX5_begins 36 = .ok (.getfield 47, 3) := dk_180 0 47 (dk_at dksX5_begins_1 13 rfl rfl)
theorem dX5_begins_39 : decode cX5_begins 39 = .ok (.invokevirtual 51, 3) := dk_182 0 51 (dk_at dksX5_begins_1 16 rfl rfl)
theorem dX5_begins_42 : decode cX5_begins 42 = .ok (.if_icmp .ge 87, 3) := dk_162 0 87 (dk_at dksX5_begins_1 19 rfl rfl)
theorem dX5_begins_45 : decode cX5_begins 45 = .ok (.aload_n 0, 1) := dk_42 (dk_at dksX5_begins_1 22 rfl rfl)
theorem dX5_begins_46 : decode cX5_begins 46 = .ok (.getfield 28, 3) := dk_180 0 28 (dk_at dksX5_begins_2 0 rfl rfl)
theorem dX5_begins_49 : decode cX5_begins 49 = .ok (.bipush 6, 2) := dk_16 6 (dk_at dksX5_begins_2 3 rfl rfl)
theorem dX5_begins_51 : decode cX5_begins 51 = .ok (.if_icmp .ge 78, 3) := dk_162 0 78 (dk_at dksX5_begins_2 5 rfl rfl)
theorem dX5_begins_54 : decode cX5_begins 54 = .ok (.aload_n 0, 1) := dk_42 (dk_at dksX5_begins_2 8 rfl rfl)
theorem dX5_begins_55 : decode cX5_begins 55 = .ok (.getfield 3, 3) := dk_180 0 3 (dk_at dksX5_begins_2 9 rfl rfl)
theorem dX5_begins_58 : decode cX5_begins 58 = .ok (.getfield 32, 3) := dk_180 0 32 (dk_at dksX5_begins_2 12 rfl rfl)
theorem dX5_begins_61 : decode cX5_begins 61 = .ok (.getfield 47, 3) := dk_180 0 47 (dk_at dksX5_begins_2 15 rfl rfl)
theorem dX5_begins_64 : decode cX5_begins 64 = .ok (.iload_n 3, 1) := dk_29 (dk_at dksX5_begins_2 18 rfl rfl)
theorem dX5_begins_65 : decode cX5_begins 65 = .ok (.invokevirtual 57, 3) := dk_182 0 57 (dk_at dksX5_begins_2 19 rfl rfl)
theorem dX5_begins_68 : decode cX5_begins 68 = .ok (.checkcast 61, 3) := dk_192 0 61 (dk_at dksX5_begins_3 0 rfl rfl)
theorem dX5_begins_71 : decode cX5_begins 71 = .ok (.getfield 63, 3) := dk_180 0 63 (dk_at dksX5_begins_3 3 rfl rfl)
theorem dX5_begins_74 : decode cX5_begins 74 = .ok (.iload_n 1, 1) := dk_27 (dk_at dksX5_begins_3 6 rfl rfl)
theorem dX5_begins_75 : decode cX5_begins 75 = .ok (.if_icmp .eq 6, 3) := dk_159 0 6 (dk_at dksX5_begins_3 7 rfl rfl)
theorem dX5_begins_78 : decode cX5_begins 78 = .ok (.goto 45, 3) := dk_167 0 45 (dk_at dksX5_begins_3 10 rfl rfl)
theorem dX5_begins_81 : decode cX5_begins 81 = .ok (.aload_n 0, 1) := dk_42 (dk_at dksX5_begins_3 13 rfl rfl)
theorem dX5_begins_82 : decode cX5_begins 82 = .ok (.getfield 15, 3) := dk_180 0 15 (dk_at dksX5_begins_3 14 rfl rfl)
theorem dX5_begins_85 : decode cX5_begins 85 = .ok (.aload_n 0, 1) := dk_42 (dk_at dksX5_begins_3 17 rfl rfl)
theorem dX5_begins_86 : decode cX5_begins 86 = .ok (.getfield 28, 3) := dk_180 0 28 (dk_at dksX5_begins_3 18 rfl rfl)
theorem dX5_begins_89 : decode cX5_begins 89 = .ok (.aload_n 0, 1) := dk_42 (dk_at dksX5_begins_3 21 rfl rfl)
theorem dX5_begins_90 : decode cX5_begins 90 = .ok (.getfield 3, 3) := dk_180 0 3 (dk_at dksX5_begins_4 0 rfl rfl)
theorem dX5_begins_93 : decode cX5_begins 93 = .ok (.iload_n 3, 1) := dk_29 (dk_at dksX5_begins_4 3 rfl rfl)
theorem dX5_begins_94 : decode cX5_begins 94 = .ok (.iload_n 1, 1) := dk_27 (dk_at dksX5_begins_4 4 rfl rfl)
theorem dX5_begins_95 : decode cX5_begins 95 = .ok (.aload_n 0, 1) := dk_42 (dk_at dksX5_begins_4 5 rfl rfl)
theorem dX5_begins_96 : decode cX5_begins 96 = .ok (.getfield 3, 3) := dk_180 0 3 (dk_at dksX5_begins_4 6 rfl rfl)
theorem dX5_begins_99 : decode cX5_begins 99 = .ok (.getfield 32, 3) := dk_180 0 32 (dk_at dksX5_begins_4 9 rfl rfl)
theorem dX5_begins_102 : decode cX5_begins 102 = .ok (.getfield 66, 3) := dk_180 0 66 (dk_at dksX5_begins_4 12 rfl rfl)
theorem dX5_begins_105 : decode cX5_begins 105 = .ok (.invokevirtual 51, 3) := dk_182 0 51 (dk_at dksX5_begins_4 15 rfl rfl)
theorem dX5_begins_108 : decode cX5_begins 108 = .ok (.iconst 0, 1) := dk_3 (dk_at dksX5_begins_4 18 rfl rfl)
theorem dX5_begins_109 : decode cX5_begins 109 = .ok (.invokevirtual 69, 3) := dk_182 0 69 (dk_at dksX5_begins_4 19 rfl rfl)
theorem dX5_begins_112 : decode cX5_begins 112 = .ok (.iastore, 1) := dk_79 (dk_at dksX5_begins_4 22 rfl rfl)
theorem dX5_begins_113 : decode cX5_begins 113 = .ok (.aload_n 0, 1) := dk_42 (dk_at dksX5_begins_4 23 rfl rfl)
theorem dX5_begins_114 : decode cX5_begins 114 = .ok (.dup, 1) := dk_89 (dk_at dksX5_begins_5 0 rfl rfl)
theorem dX5_begins_115 : decode cX5_begins 115 = .ok (.getfield 28, 3) := dk_180 0 28 (dk_at dksX5_begins_5 1 rfl rfl)
theorem dX5_begins_118 : decode cX5_begins 118 = .ok (.iconst 1, 1) := dk_4 (dk_at dksX5_begins_5 4 rfl rfl)
theorem dX5_begins_119 : decode cX5_begins 119 = .ok (.iadd, 1) := dk_96 (dk_at dksX5_begins_5 5 rfl rfl)
theorem dX5_begins_120 : decode cX5_begins 120 = .ok (.putfield 28, 3) := dk_181 0 28 (dk_at dksX5_begins_5 6 rfl rfl)
theorem dX5_begins_123 : decode cX5_begins 123 = .ok (.iinc 3 1, 3) := dk_132 3 1 (dk_at dksX5_begins_5 9 rfl rfl)
theorem dX5_begins_126 : decode cX5_begins 126 = .ok (.goto (-98), 3) := dk_167 255 158 (dk_at dksX5_begins_5 12 rfl rfl)
theorem dX5_begins_129 : decode cX5_begins 129 = .ok (.iconst 0, 1) := dk_3 (dk_at dksX5_begins_5 15 rfl rfl)
theorem dX5_begins_130 : decode cX5_begins 130 = .ok (.istore_n 3, 1) := dk_62 (dk_at dksX5_begins_5 16 rfl rfl)
theorem dX5_begins_131 : decode cX5_begins 131 = .ok (.iload_n 3, 1) := dk_29 (dk_at dksX5_begins_5 17 rfl rfl)
theorem dX5_begins_132 : decode cX5_begins 132 = .ok (.iconst 1, 1) := dk_4 (dk_at dksX5_begins_5 18 rfl rfl)
theorem dX5_begins_133 : decode cX5_begins 133 = .ok (.aload_n 0, 1) := dk_42 (dk_at dksX5_begins_5 19 rfl rfl)
theorem dX5_begins_134 : decode cX5_begins 134 = .ok (.getfield 28, 3) := dk_180 0 28 (dk_at dksX5_begins_5 20 rfl rfl)
theorem dX5_begins_137 : decode cX5_begins 137 = .ok (.ishl, 1) := dk_120 (dk_at dksX5_begins_5 23 rfl rfl)
theorem dX5_begins_138 : decode cX5_begins 138 = .ok (.if_icmp .ge 57, 3) := dk_162 0 57 (dk_at dksX5_begins_6 0 rfl rfl)
theorem dX5_begins_141 : decode cX5_begins 141 = .ok (.aload_n 0, 1) := dk_42 (dk_at dksX5_begins_6 3 rfl rfl)
theorem dX5_begins_142 : decode cX5_begins 142 = .ok (.getfield 19, 3) := dk_180 0 19 (dk_at dksX5_begins_6 4 rfl rfl)
theorem dX5_begins_145 : decode cX5_begins 145 = .ok (.iload_n 3, 1) := dk_29 (dk_at dksX5_begins_6 7 rfl rfl)
theorem dX5_begins_146 : decode cX5_begins 146 = .ok (.iconst 0, 1) := dk_3 (dk_at dksX5_begins_6 8 rfl rfl)
theorem dX5_begins_147 : decode cX5_begins 147 = .ok (.iastore, 1) := dk_79 (dk_at dksX5_begins_6 9 rfl rfl)
theorem dX5_begins_148 : decode cX5_begins 148 = .ok (.iconst 0, 1) := dk_3 (dk_at dksX5_begins_6 10 rfl rfl)
theorem dX5_begins_149 : decode cX5_begins 149 = .ok (.istore 4, 2) := dk_54 4 (dk_at dksX5_begins_6 11 rfl rfl)
theorem dX5_begins_151 : decode cX5_begins 151 = .ok (.iload 4, 2) := dk_21 4 (dk_at dksX5_begins_6 13 rfl rfl)
theorem dX5_begins_153 : decode cX5_begins 153 = .ok (.aload_n 0, 1) := dk_42 (dk_at dksX5_begins_6 15 rfl rfl)
theorem dX5_begins_154 : decode cX5_begins 154 = .ok (.getfield 28, 3) := dk_180 0 28 (dk_at dksX5_begins_6 16 rfl rfl)
theorem dX5_begins_157 : decode cX5_begins 157 = .ok (.if_icmp .ge 32, 3) := dk_162 0 32 (dk_at dksX5_begins_6 19 rfl rfl)
theorem dX5_begins_160 : decode cX5_begins 160 = .ok (.aload_n 0, 1) := dk_42 (dk_at dksX5_begins_6 22 rfl rfl)
theorem dX5_begins_161 : decode cX5_begins 161 = .ok (.getfield 19, 3) := dk_180 0 19 (dk_at dksX5_begins_7 0 rfl rfl)
theorem dX5_begins_164 : decode cX5_begins 164 = .ok (.iload_n 3, 1) := dk_29 (dk_at dksX5_begins_7 3 rfl rfl)
theorem dX5_begins_165 : decode cX5_begins 165 = .ok (.dup2, 1) := dk_92 (dk_at dksX5_begins_7 4 rfl rfl)
theorem dX5_begins_166 : decode cX5_begins 166 = .ok (.iaload, 1) := dk_46 (dk_at dksX5_begins_7 5 rfl rfl)
theorem dX5_begins_167 : decode cX5_begins 167 = .ok (.iload_n 3, 1) := dk_29 (dk_at dksX5_begins_7 6 rfl rfl)
theorem dX5_begins_168 : decode cX5_begins 168 = .ok (.iload 4, 2) := dk_21 4 (dk_at dksX5_begins_7 7 rfl rfl)
theorem dX5_begins_170 : decode cX5_begins 170 = .ok (.ishr, 1) := dk_122 (dk_at dksX5_begins_7 9 rfl rfl)
theorem dX5_begins_171 : decode cX5_begins 171 = .ok (.iconst 1, 1) := dk_4 (dk_at dksX5_begins_7 10 rfl rfl)
theorem dX5_begins_172 : decode cX5_begins 172 = .ok (.iand, 1) := dk_126 (dk_at dksX5_begins_7 11 rfl rfl)
theorem dX5_begins_173 : decode cX5_begins 173 = .ok (.aload_n 0, 1) := dk_42 (dk_at dksX5_begins_7 12 rfl rfl)
theorem dX5_begins_174 : decode cX5_begins 174 = .ok (.getfield 15, 3) := dk_180 0 15 (dk_at dksX5_begins_7 13 rfl rfl)
theorem dX5_begins_177 : decode cX5_begins 177 = .ok (.iload 4, 2) := dk_21 4 (dk_at dksX5_begins_7 16 rfl rfl)
theorem dX5_begins_179 : decode cX5_begins 179 = .ok (.iaload, 1) := dk_46 (dk_at dksX5_begins_7 18 rfl rfl)
theorem dX5_begins_180 : decode cX5_begins 180 = .ok (.imul, 1) := dk_104 (dk_at dksX5_begins_7 19 rfl rfl)
theorem dX5_begins_181 : decode cX5_begins 181 = .ok (.iadd, 1) := dk_96 (dk_at dksX5_begins_7 20 rfl rfl)
theorem dX5_begins_182 : decode cX5_begins 182 = .ok (.iastore, 1) := dk_79 (dk_at dksX5_begins_7 21 rfl rfl)
theorem dX5_begins_183 : decode cX5_begins 183 = .ok (.iinc 4 1, 3) := dk_132 4 1 (dk_at dksX5_begins_8 0 rfl rfl)
theorem dX5_begins_186 : decode cX5_begins 186 = .ok (.goto (-35), 3) := dk_167 255 221 (dk_at dksX5_begins_8 3 rfl rfl)
theorem dX5_begins_189 : decode cX5_begins 189 = .ok (.iinc 3 1, 3) := dk_132 3 1 (dk_at dksX5_begins_8 6 rfl rfl)
theorem dX5_begins_192 : decode cX5_begins 192 = .ok (.goto (-61), 3) := dk_167 255 195 (dk_at dksX5_begins_8 9 rfl rfl)
theorem dX5_begins_195 : decode cX5_begins 195 = .ok (.return_, 1) := dk_177 (dk_at dksX5_begins_8 12 rfl rfl)
abbrev cX5_fewest : ByteArray := prog_12_method_6_code
def yX5_fewest : MethodName := ⟨RX5, "fewest", "(I)I"⟩
def dkwX5_fewest_4 : List UInt8 := [96, 181, 0, 85, 167, 255, 177, 2, 172]
abbrev dktX5_fewest_4 : List UInt8 := dkwX5_fewest_4 ++ []
def dkwX5_fewest_3 : List UInt8 := [167, 255, 234, 42, 180, 0, 22, 3, 46, 27, 161, 0, 8, 42, 180, 0, 85, 172, 42, 89, 180, 0, 85, 4]
abbrev dktX5_fewest_3 : List UInt8 := dkwX5_fewest_3 ++ dktX5_fewest_4
def dkwX5_fewest_2 : List UInt8 := [62, 29, 42, 182, 0, 88, 162, 0, 20, 42, 180, 0, 22, 29, 42, 29, 182, 0, 91, 79, 132, 3, 1]
abbrev dktX5_fewest_2 : List UInt8 := dkwX5_fewest_2 ++ dktX5_fewest_3
def dkwX5_fewest_1 : List UInt8 := [16, 60, 163, 0, 76, 42, 180, 0, 25, 77, 42, 42, 180, 0, 22, 181, 0, 25, 42, 44, 181, 0, 22, 3]
abbrev dktX5_fewest_1 : List UInt8 := dkwX5_fewest_1 ++ dktX5_fewest_2
def dkwX5_fewest_0 : List UInt8 := [42, 180, 0, 22, 3, 184, 0, 79, 27, 154, 0, 5, 3, 172, 42, 4, 181, 0, 85, 42, 180, 0, 85]
abbrev dktX5_fewest_0 : List UInt8 := dkwX5_fewest_0 ++ dktX5_fewest_1
theorem dksX5_fewest_0 : cX5_fewest.data.toList.drop 0 = dktX5_fewest_0 := by decide +kernel
theorem dksX5_fewest_1 : cX5_fewest.data.toList.drop 23 = dktX5_fewest_1 := dk_seg dksX5_fewest_0 23 rfl rfl
theorem dksX5_fewest_2 : cX5_fewest.data.toList.drop 47 = dktX5_fewest_2 := dk_seg dksX5_fewest_1 24 rfl rfl
theorem dksX5_fewest_3 : cX5_fewest.data.toList.drop 70 = dktX5_fewest_3 := dk_seg dksX5_fewest_2 23 rfl rfl
theorem dksX5_fewest_4 : cX5_fewest.data.toList.drop 94 = dktX5_fewest_4 := dk_seg dksX5_fewest_3 24 rfl rfl
theorem dX5_fewest_0 : decode cX5_fewest 0 = .ok (.aload_n 0, 1) := dk_42 (dk_at dksX5_fewest_0 0 rfl rfl)
theorem dX5_fewest_1 : decode cX5_fewest 1 = .ok (.getfield 22, 3) := dk_180 0 22 (dk_at dksX5_fewest_0 1 rfl rfl)
theorem dX5_fewest_4 : decode cX5_fewest 4 = .ok (.iconst 0, 1) := dk_3 (dk_at dksX5_fewest_0 4 rfl rfl)
theorem dX5_fewest_5 : decode cX5_fewest 5 = .ok (.invokestatic 79, 3) := dk_184 0 79 (dk_at dksX5_fewest_0 5 rfl rfl)
theorem dX5_fewest_8 : decode cX5_fewest 8 = .ok (.iload_n 1, 1) := dk_27 (dk_at dksX5_fewest_0 8 rfl rfl)
theorem dX5_fewest_9 : decode cX5_fewest 9 = .ok (.ifCond .ne 5, 3) := dk_154 0 5 (dk_at dksX5_fewest_0 9 rfl rfl)
theorem dX5_fewest_12 : decode cX5_fewest 12 = .ok (.iconst 0, 1) := dk_3 (dk_at dksX5_fewest_0 12 rfl rfl)
theorem dX5_fewest_13 : decode cX5_fewest 13 = .ok (.ireturn, 1) := dk_172 (dk_at dksX5_fewest_0 13 rfl rfl)
theorem dX5_fewest_14 : decode cX5_fewest 14 = .ok (.aload_n 0, 1) := dk_42 (dk_at dksX5_fewest_0 14 rfl rfl)
theorem dX5_fewest_15 : decode cX5_fewest 15 = .ok (.iconst 1, 1) := dk_4 (dk_at dksX5_fewest_0 15 rfl rfl)
theorem dX5_fewest_16 : decode cX5_fewest 16 = .ok (.putfield 85, 3) := dk_181 0 85 (dk_at dksX5_fewest_0 16 rfl rfl)
theorem dX5_fewest_19 : decode cX5_fewest 19 = .ok (.aload_n 0, 1) := dk_42 (dk_at dksX5_fewest_0 19 rfl rfl)
theorem dX5_fewest_20 : decode cX5_fewest 20 = .ok (.getfield 85, 3) := dk_180 0 85 (dk_at dksX5_fewest_0 20 rfl rfl)
theorem dX5_fewest_23 : decode cX5_fewest 23 = .ok (.bipush 60, 2) := dk_16 60 (dk_at dksX5_fewest_1 0 rfl rfl)
theorem dX5_fewest_25 : decode cX5_fewest 25 = .ok (.if_icmp .gt 76, 3) := dk_163 0 76 (dk_at dksX5_fewest_1 2 rfl rfl)
theorem dX5_fewest_28 : decode cX5_fewest 28 = .ok (.aload_n 0, 1) := dk_42 (dk_at dksX5_fewest_1 5 rfl rfl)
theorem dX5_fewest_29 : decode cX5_fewest 29 = .ok (.getfield 25, 3) := dk_180 0 25 (dk_at dksX5_fewest_1 6 rfl rfl)
theorem dX5_fewest_32 : decode cX5_fewest 32 = .ok (.astore_n 2, 1) := dk_77 (dk_at dksX5_fewest_1 9 rfl rfl)
theorem dX5_fewest_33 : decode cX5_fewest 33 = .ok (.aload_n 0, 1) := dk_42 (dk_at dksX5_fewest_1 10 rfl rfl)
theorem dX5_fewest_34 : decode cX5_fewest 34 = .ok (.aload_n 0, 1) := dk_42 (dk_at dksX5_fewest_1 11 rfl rfl)
theorem dX5_fewest_35 : decode cX5_fewest 35 = .ok (.getfield 22, 3) := dk_180 0 22 (dk_at dksX5_fewest_1 12 rfl rfl)
theorem dX5_fewest_38 : decode cX5_fewest 38 = .ok (.putfield 25, 3) := dk_181 0 25 (dk_at dksX5_fewest_1 15 rfl rfl)
theorem dX5_fewest_41 : decode cX5_fewest 41 = .ok (.aload_n 0, 1) := dk_42 (dk_at dksX5_fewest_1 18 rfl rfl)
theorem dX5_fewest_42 : decode cX5_fewest 42 = .ok (.aload_n 2, 1) := dk_44 (dk_at dksX5_fewest_1 19 rfl rfl)
theorem dX5_fewest_43 : decode cX5_fewest 43 = .ok (.putfield 22, 3) := dk_181 0 22 (dk_at dksX5_fewest_1 20 rfl rfl)
theorem dX5_fewest_46 : decode cX5_fewest 46 = .ok (.iconst 0, 1) := dk_3 (dk_at dksX5_fewest_1 23 rfl rfl)
theorem dX5_fewest_47 : decode cX5_fewest 47 = .ok (.istore_n 3, 1) := dk_62 (dk_at dksX5_fewest_2 0 rfl rfl)
theorem dX5_fewest_48 : decode cX5_fewest 48 = .ok (.iload_n 3, 1) := dk_29 (dk_at dksX5_fewest_2 1 rfl rfl)
theorem dX5_fewest_49 : decode cX5_fewest 49 = .ok (.aload_n 0, 1) := dk_42 (dk_at dksX5_fewest_2 2 rfl rfl)
theorem dX5_fewest_50 : decode cX5_fewest 50 = .ok (.invokevirtual 88, 3) := dk_182 0 88 (dk_at dksX5_fewest_2 3 rfl rfl)
theorem dX5_fewest_53 : decode cX5_fewest 53 = .ok (.if_icmp .ge 20, 3) := dk_162 0 20 (dk_at dksX5_fewest_2 6 rfl rfl)
theorem dX5_fewest_56 : decode cX5_fewest 56 = .ok (.aload_n 0, 1) := dk_42 (dk_at dksX5_fewest_2 9 rfl rfl)
theorem dX5_fewest_57 : decode cX5_fewest 57 = .ok (.getfield 22, 3) := dk_180 0 22 (dk_at dksX5_fewest_2 10 rfl rfl)
theorem dX5_fewest_60 : decode cX5_fewest 60 = .ok (.iload_n 3, 1) := dk_29 (dk_at dksX5_fewest_2 13 rfl rfl)
theorem dX5_fewest_61 : decode cX5_fewest 61 = .ok (.aload_n 0, 1) := dk_42 (dk_at dksX5_fewest_2 14 rfl rfl)
theorem dX5_fewest_62 : decode cX5_fewest 62 = .ok (.iload_n 3, 1) := dk_29 (dk_at dksX5_fewest_2 15 rfl rfl)
theorem dX5_fewest_63 : decode cX5_fewest 63 = .ok (.invokevirtual 91, 3) := dk_182 0 91 (dk_at dksX5_fewest_2 16 rfl rfl)
theorem dX5_fewest_66 : decode cX5_fewest 66 = .ok (.iastore, 1) := dk_79 (dk_at dksX5_fewest_2 19 rfl rfl)
theorem dX5_fewest_67 : decode cX5_fewest 67 = .ok (.iinc 3 1, 3) := dk_132 3 1 (dk_at dksX5_fewest_2 20 rfl rfl)
theorem dX5_fewest_70 : decode cX5_fewest 70 = .ok (.goto (-22), 3) := dk_167 255 234 (dk_at dksX5_fewest_3 0 rfl rfl)
theorem dX5_fewest_73 : decode cX5_fewest 73 = .ok (.aload_n 0, 1) := dk_42 (dk_at dksX5_fewest_3 3 rfl rfl)
theorem dX5_fewest_74 : decode cX5_fewest 74 = .ok (.getfield 22, 3) := dk_180 0 22 (dk_at dksX5_fewest_3 4 rfl rfl)
theorem dX5_fewest_77 : decode cX5_fewest 77 = .ok (.iconst 0, 1) := dk_3 (dk_at dksX5_fewest_3 7 rfl rfl)
theorem dX5_fewest_78 : decode cX5_fewest 78 = .ok (.iaload, 1) := dk_46 (dk_at dksX5_fewest_3 8 rfl rfl)
theorem dX5_fewest_79 : decode cX5_fewest 79 = .ok (.iload_n 1, 1) := dk_27 (dk_at dksX5_fewest_3 9 rfl rfl)
theorem dX5_fewest_80 : decode cX5_fewest 80 = .ok (.if_icmp .lt 8, 3) := dk_161 0 8 (dk_at dksX5_fewest_3 10 rfl rfl)
theorem dX5_fewest_83 : decode cX5_fewest 83 = .ok (.aload_n 0, 1) := dk_42 (dk_at dksX5_fewest_3 13 rfl rfl)
theorem dX5_fewest_84 : decode cX5_fewest 84 = .ok (.getfield 85, 3) := dk_180 0 85 (dk_at dksX5_fewest_3 14 rfl rfl)
theorem dX5_fewest_87 : decode cX5_fewest 87 = .ok (.ireturn, 1) := dk_172 (dk_at dksX5_fewest_3 17 rfl rfl)
theorem dX5_fewest_88 : decode cX5_fewest 88 = .ok (.aload_n 0, 1) := dk_42 (dk_at dksX5_fewest_3 18 rfl rfl)
theorem dX5_fewest_89 : decode cX5_fewest 89 = .ok (.dup, 1) := dk_89 (dk_at dksX5_fewest_3 19 rfl rfl)
theorem dX5_fewest_90 : decode cX5_fewest 90 = .ok (.getfield 85, 3) := dk_180 0 85 (dk_at dksX5_fewest_3 20 rfl rfl)
theorem dX5_fewest_93 : decode cX5_fewest 93 = .ok (.iconst 1, 1) := dk_4 (dk_at dksX5_fewest_3 23 rfl rfl)
theorem dX5_fewest_94 : decode cX5_fewest 94 = .ok (.iadd, 1) := dk_96 (dk_at dksX5_fewest_4 0 rfl rfl)
theorem dX5_fewest_95 : decode cX5_fewest 95 = .ok (.putfield 85, 3) := dk_181 0 85 (dk_at dksX5_fewest_4 1 rfl rfl)
theorem dX5_fewest_98 : decode cX5_fewest 98 = .ok (.goto (-79), 3) := dk_167 255 177 (dk_at dksX5_fewest_4 4 rfl rfl)
theorem dX5_fewest_101 : decode cX5_fewest 101 = .ok (.iconst (-1), 1) := dk_2 (dk_at dksX5_fewest_4 7 rfl rfl)
theorem dX5_fewest_102 : decode cX5_fewest 102 = .ok (.ireturn, 1) := dk_172 (dk_at dksX5_fewest_4 8 rfl rfl)
abbrev cX5_states : ByteArray := prog_12_method_3_code
def yX5_states : MethodName := ⟨RX5, "states", "()I"⟩
def dkwX5_states_1 : List UInt8 := [167, 255, 238, 27, 172]
abbrev dktX5_states_1 : List UInt8 := dkwX5_states_1 ++ []
def dkwX5_states_0 : List UInt8 := [4, 60, 3, 61, 28, 42, 180, 0, 28, 162, 0, 16, 27, 42, 180, 0, 41, 104, 60, 132, 2, 1]
abbrev dktX5_states_0 : List UInt8 := dkwX5_states_0 ++ dktX5_states_1
theorem dksX5_states_0 : cX5_states.data.toList.drop 0 = dktX5_states_0 := by decide +kernel
theorem dksX5_states_1 : cX5_states.data.toList.drop 22 = dktX5_states_1 := dk_seg dksX5_states_0 22 rfl rfl
theorem dX5_states_0 : decode cX5_states 0 = .ok (.iconst 1, 1) := dk_4 (dk_at dksX5_states_0 0 rfl rfl)
theorem dX5_states_1 : decode cX5_states 1 = .ok (.istore_n 1, 1) := dk_60 (dk_at dksX5_states_0 1 rfl rfl)
theorem dX5_states_2 : decode cX5_states 2 = .ok (.iconst 0, 1) := dk_3 (dk_at dksX5_states_0 2 rfl rfl)
theorem dX5_states_3 : decode cX5_states 3 = .ok (.istore_n 2, 1) := dk_61 (dk_at dksX5_states_0 3 rfl rfl)
theorem dX5_states_4 : decode cX5_states 4 = .ok (.iload_n 2, 1) := dk_28 (dk_at dksX5_states_0 4 rfl rfl)
theorem dX5_states_5 : decode cX5_states 5 = .ok (.aload_n 0, 1) := dk_42 (dk_at dksX5_states_0 5 rfl rfl)
theorem dX5_states_6 : decode cX5_states 6 = .ok (.getfield 28, 3) := dk_180 0 28 (dk_at dksX5_states_0 6 rfl rfl)
theorem dX5_states_9 : decode cX5_states 9 = .ok (.if_icmp .ge 16, 3) := dk_162 0 16 (dk_at dksX5_states_0 9 rfl rfl)
theorem dX5_states_12 : decode cX5_states 12 = .ok (.iload_n 1, 1) := dk_27 (dk_at dksX5_states_0 12 rfl rfl)
theorem dX5_states_13 : decode cX5_states 13 = .ok (.aload_n 0, 1) := dk_42 (dk_at dksX5_states_0 13 rfl rfl)
theorem dX5_states_14 : decode cX5_states 14 = .ok (.getfield 41, 3) := dk_180 0 41 (dk_at dksX5_states_0 14 rfl rfl)
theorem dX5_states_17 : decode cX5_states 17 = .ok (.imul, 1) := dk_104 (dk_at dksX5_states_0 17 rfl rfl)
theorem dX5_states_18 : decode cX5_states 18 = .ok (.istore_n 1, 1) := dk_60 (dk_at dksX5_states_0 18 rfl rfl)
theorem dX5_states_19 : decode cX5_states 19 = .ok (.iinc 2 1, 3) := dk_132 2 1 (dk_at dksX5_states_0 19 rfl rfl)
theorem dX5_states_22 : decode cX5_states 22 = .ok (.goto (-18), 3) := dk_167 255 238 (dk_at dksX5_states_1 0 rfl rfl)
theorem dX5_states_25 : decode cX5_states 25 = .ok (.iload_n 1, 1) := dk_27 (dk_at dksX5_states_1 3 rfl rfl)
theorem dX5_states_26 : decode cX5_states 26 = .ok (.ireturn, 1) := dk_172 (dk_at dksX5_states_1 4 rfl rfl)
abbrev cX5_most : ByteArray := prog_12_method_7_code
def yX5_most : MethodName := ⟨RX5, "most", "(I)I"⟩
def dkwX5_most_2 : List UInt8 := [21, 4, 154, 0, 5, 29, 172, 21, 4, 4, 100, 28, 126, 54, 4, 167, 255, 204]
abbrev dktX5_most_2 : List UInt8 := dkwX5_most_2 ++ []
def dkwX5_most_1 : List UInt8 := [42, 180, 0, 19, 21, 4, 46, 42, 180, 0, 25, 42, 27, 21, 4, 182, 0, 103, 46, 96, 184, 0, 73, 62]
abbrev dktX5_most_1 : List UInt8 := dkwX5_most_1 ++ dktX5_most_2
def dkwX5_most_0 : List UInt8 := [42, 27, 182, 0, 95, 61, 3, 62, 28, 54, 4, 21, 4, 184, 0, 98, 42, 180, 0, 44, 163, 0, 28, 29]
abbrev dktX5_most_0 : List UInt8 := dkwX5_most_0 ++ dktX5_most_1
theorem dksX5_most_0 : cX5_most.data.toList.drop 0 = dktX5_most_0 := by decide +kernel
theorem dksX5_most_1 : cX5_most.data.toList.drop 24 = dktX5_most_1 := dk_seg dksX5_most_0 24 rfl rfl
theorem dksX5_most_2 : cX5_most.data.toList.drop 48 = dktX5_most_2 := dk_seg dksX5_most_1 24 rfl rfl
theorem dX5_most_0 : decode cX5_most 0 = .ok (.aload_n 0, 1) := dk_42 (dk_at dksX5_most_0 0 rfl rfl)
theorem dX5_most_1 : decode cX5_most 1 = .ok (.iload_n 1, 1) := dk_27 (dk_at dksX5_most_0 1 rfl rfl)
theorem dX5_most_2 : decode cX5_most 2 = .ok (.invokevirtual 95, 3) := dk_182 0 95 (dk_at dksX5_most_0 2 rfl rfl)
theorem dX5_most_5 : decode cX5_most 5 = .ok (.istore_n 2, 1) := dk_61 (dk_at dksX5_most_0 5 rfl rfl)
theorem dX5_most_6 : decode cX5_most 6 = .ok (.iconst 0, 1) := dk_3 (dk_at dksX5_most_0 6 rfl rfl)
theorem dX5_most_7 : decode cX5_most 7 = .ok (.istore_n 3, 1) := dk_62 (dk_at dksX5_most_0 7 rfl rfl)
theorem dX5_most_8 : decode cX5_most 8 = .ok (.iload_n 2, 1) := dk_28 (dk_at dksX5_most_0 8 rfl rfl)
theorem dX5_most_9 : decode cX5_most 9 = .ok (.istore 4, 2) := dk_54 4 (dk_at dksX5_most_0 9 rfl rfl)
theorem dX5_most_11 : decode cX5_most 11 = .ok (.iload 4, 2) := dk_21 4 (dk_at dksX5_most_0 11 rfl rfl)
theorem dX5_most_13 : decode cX5_most 13 = .ok (.invokestatic 98, 3) := dk_184 0 98 (dk_at dksX5_most_0 13 rfl rfl)
theorem dX5_most_16 : decode cX5_most 16 = .ok (.aload_n 0, 1) := dk_42 (dk_at dksX5_most_0 16 rfl rfl)
theorem dX5_most_17 : decode cX5_most 17 = .ok (.getfield 44, 3) := dk_180 0 44 (dk_at dksX5_most_0 17 rfl rfl)
theorem dX5_most_20 : decode cX5_most 20 = .ok (.if_icmp .gt 28, 3) := dk_163 0 28 (dk_at dksX5_most_0 20 rfl rfl)
theorem dX5_most_23 : decode cX5_most 23 = .ok (.iload_n 3, 1) := dk_29 (dk_at dksX5_most_0 23 rfl rfl)
theorem dX5_most_24 : decode cX5_most 24 = .ok (.aload_n 0, 1) := dk_42 (dk_at dksX5_most_1 0 rfl rfl)
theorem dX5_most_25 : decode cX5_most 25 = .ok (.getfield 19, 3) := dk_180 0 19 (dk_at dksX5_most_1 1 rfl rfl)
theorem dX5_most_28 : decode cX5_most 28 = .ok (.iload 4, 2) := dk_21 4 (dk_at dksX5_most_1 4 rfl rfl)
theorem dX5_most_30 : decode cX5_most 30 = .ok (.iaload, 1) := dk_46 (dk_at dksX5_most_1 6 rfl rfl)
theorem dX5_most_31 : decode cX5_most 31 = .ok (.aload_n 0, 1) := dk_42 (dk_at dksX5_most_1 7 rfl rfl)
theorem dX5_most_32 : decode cX5_most 32 = .ok (.getfield 25, 3) := dk_180 0 25 (dk_at dksX5_most_1 8 rfl rfl)
theorem dX5_most_35 : decode cX5_most 35 = .ok (.aload_n 0, 1) := dk_42 (dk_at dksX5_most_1 11 rfl rfl)
theorem dX5_most_36 : decode cX5_most 36 = .ok (.iload_n 1, 1) := dk_27 (dk_at dksX5_most_1 12 rfl rfl)
theorem dX5_most_37 : decode cX5_most 37 = .ok (.iload 4, 2) := dk_21 4 (dk_at dksX5_most_1 13 rfl rfl)
theorem dX5_most_39 : decode cX5_most 39 = .ok (.invokevirtual 103, 3) := dk_182 0 103 (dk_at dksX5_most_1 15 rfl rfl)
theorem dX5_most_42 : decode cX5_most 42 = .ok (.iaload, 1) := dk_46 (dk_at dksX5_most_1 18 rfl rfl)
theorem dX5_most_43 : decode cX5_most 43 = .ok (.iadd, 1) := dk_96 (dk_at dksX5_most_1 19 rfl rfl)
theorem dX5_most_44 : decode cX5_most 44 = .ok (.invokestatic 73, 3) := dk_184 0 73 (dk_at dksX5_most_1 20 rfl rfl)
theorem dX5_most_47 : decode cX5_most 47 = .ok (.istore_n 3, 1) := dk_62 (dk_at dksX5_most_1 23 rfl rfl)
theorem dX5_most_48 : decode cX5_most 48 = .ok (.iload 4, 2) := dk_21 4 (dk_at dksX5_most_2 0 rfl rfl)
theorem dX5_most_50 : decode cX5_most 50 = .ok (.ifCond .ne 5, 3) := dk_154 0 5 (dk_at dksX5_most_2 2 rfl rfl)
theorem dX5_most_53 : decode cX5_most 53 = .ok (.iload_n 3, 1) := dk_29 (dk_at dksX5_most_2 5 rfl rfl)
theorem dX5_most_54 : decode cX5_most 54 = .ok (.ireturn, 1) := dk_172 (dk_at dksX5_most_2 6 rfl rfl)
theorem dX5_most_55 : decode cX5_most 55 = .ok (.iload 4, 2) := dk_21 4 (dk_at dksX5_most_2 7 rfl rfl)
theorem dX5_most_57 : decode cX5_most 57 = .ok (.iconst 1, 1) := dk_4 (dk_at dksX5_most_2 9 rfl rfl)
theorem dX5_most_58 : decode cX5_most 58 = .ok (.isub, 1) := dk_100 (dk_at dksX5_most_2 10 rfl rfl)
theorem dX5_most_59 : decode cX5_most 59 = .ok (.iload_n 2, 1) := dk_28 (dk_at dksX5_most_2 11 rfl rfl)
theorem dX5_most_60 : decode cX5_most 60 = .ok (.iand, 1) := dk_126 (dk_at dksX5_most_2 12 rfl rfl)
theorem dX5_most_61 : decode cX5_most 61 = .ok (.istore 4, 2) := dk_54 4 (dk_at dksX5_most_2 13 rfl rfl)
theorem dX5_most_63 : decode cX5_most 63 = .ok (.goto (-52), 3) := dk_167 255 204 (dk_at dksX5_most_2 15 rfl rfl)
abbrev cX5_rested : ByteArray := prog_12_method_4_code
def yX5_rested : MethodName := ⟨RX5, "rested", "(I)I"⟩
def dkwX5_rested_2 : List UInt8 := [167, 255, 217, 28, 172]
abbrev dktX5_rested_2 : List UInt8 := dkwX5_rested_2 ++ []
def dkwX5_rested_1 : List UInt8 := [154, 0, 10, 4, 21, 4, 120, 167, 0, 4, 3, 128, 61, 29, 42, 180, 0, 41, 108, 62, 132, 4, 1]
abbrev dktX5_rested_1 : List UInt8 := dkwX5_rested_1 ++ dktX5_rested_2
def dkwX5_rested_0 : List UInt8 := [3, 61, 27, 62, 3, 54, 4, 21, 4, 42, 180, 0, 28, 162, 0, 36, 28, 29, 42, 180, 0, 41, 112]
abbrev dktX5_rested_0 : List UInt8 := dkwX5_rested_0 ++ dktX5_rested_1
theorem dksX5_rested_0 : cX5_rested.data.toList.drop 0 = dktX5_rested_0 := by decide +kernel
theorem dksX5_rested_1 : cX5_rested.data.toList.drop 23 = dktX5_rested_1 := dk_seg dksX5_rested_0 23 rfl rfl
theorem dksX5_rested_2 : cX5_rested.data.toList.drop 46 = dktX5_rested_2 := dk_seg dksX5_rested_1 23 rfl rfl
theorem dX5_rested_0 : decode cX5_rested 0 = .ok (.iconst 0, 1) := dk_3 (dk_at dksX5_rested_0 0 rfl rfl)
theorem dX5_rested_1 : decode cX5_rested 1 = .ok (.istore_n 2, 1) := dk_61 (dk_at dksX5_rested_0 1 rfl rfl)
theorem dX5_rested_2 : decode cX5_rested 2 = .ok (.iload_n 1, 1) := dk_27 (dk_at dksX5_rested_0 2 rfl rfl)
theorem dX5_rested_3 : decode cX5_rested 3 = .ok (.istore_n 3, 1) := dk_62 (dk_at dksX5_rested_0 3 rfl rfl)
theorem dX5_rested_4 : decode cX5_rested 4 = .ok (.iconst 0, 1) := dk_3 (dk_at dksX5_rested_0 4 rfl rfl)
theorem dX5_rested_5 : decode cX5_rested 5 = .ok (.istore 4, 2) := dk_54 4 (dk_at dksX5_rested_0 5 rfl rfl)
theorem dX5_rested_7 : decode cX5_rested 7 = .ok (.iload 4, 2) := dk_21 4 (dk_at dksX5_rested_0 7 rfl rfl)
theorem dX5_rested_9 : decode cX5_rested 9 = .ok (.aload_n 0, 1) := dk_42 (dk_at dksX5_rested_0 9 rfl rfl)
theorem dX5_rested_10 : decode cX5_rested 10 = .ok (.getfield 28, 3) := dk_180 0 28 (dk_at dksX5_rested_0 10 rfl rfl)
theorem dX5_rested_13 : decode cX5_rested 13 = .ok (.if_icmp .ge 36, 3) := dk_162 0 36 (dk_at dksX5_rested_0 13 rfl rfl)
theorem dX5_rested_16 : decode cX5_rested 16 = .ok (.iload_n 2, 1) := dk_28 (dk_at dksX5_rested_0 16 rfl rfl)
theorem dX5_rested_17 : decode cX5_rested 17 = .ok (.iload_n 3, 1) := dk_29 (dk_at dksX5_rested_0 17 rfl rfl)
theorem dX5_rested_18 : decode cX5_rested 18 = .ok (.aload_n 0, 1) := dk_42 (dk_at dksX5_rested_0 18 rfl rfl)
theorem dX5_rested_19 : decode cX5_rested 19 = .ok (.getfield 41, 3) := dk_180 0 41 (dk_at dksX5_rested_0 19 rfl rfl)
theorem dX5_rested_22 : decode cX5_rested 22 = .ok (.irem, 1) := dk_112 (dk_at dksX5_rested_0 22 rfl rfl)
theorem dX5_rested_23 : decode cX5_rested 23 = .ok (.ifCond .ne 10, 3) := dk_154 0 10 (dk_at dksX5_rested_1 0 rfl rfl)
theorem dX5_rested_26 : decode cX5_rested 26 = .ok (.iconst 1, 1) := dk_4 (dk_at dksX5_rested_1 3 rfl rfl)
theorem dX5_rested_27 : decode cX5_rested 27 = .ok (.iload 4, 2) := dk_21 4 (dk_at dksX5_rested_1 4 rfl rfl)
theorem dX5_rested_29 : decode cX5_rested 29 = .ok (.ishl, 1) := dk_120 (dk_at dksX5_rested_1 6 rfl rfl)
theorem dX5_rested_30 : decode cX5_rested 30 = .ok (.goto 4, 3) := dk_167 0 4 (dk_at dksX5_rested_1 7 rfl rfl)
theorem dX5_rested_33 : decode cX5_rested 33 = .ok (.iconst 0, 1) := dk_3 (dk_at dksX5_rested_1 10 rfl rfl)
theorem dX5_rested_34 : decode cX5_rested 34 = .ok (.ior, 1) := dk_128 (dk_at dksX5_rested_1 11 rfl rfl)
theorem dX5_rested_35 : decode cX5_rested 35 = .ok (.istore_n 2, 1) := dk_61 (dk_at dksX5_rested_1 12 rfl rfl)
theorem dX5_rested_36 : decode cX5_rested 36 = .ok (.iload_n 3, 1) := dk_29 (dk_at dksX5_rested_1 13 rfl rfl)
theorem dX5_rested_37 : decode cX5_rested 37 = .ok (.aload_n 0, 1) := dk_42 (dk_at dksX5_rested_1 14 rfl rfl)
theorem dX5_rested_38 : decode cX5_rested 38 = .ok (.getfield 41, 3) := dk_180 0 41 (dk_at dksX5_rested_1 15 rfl rfl)
theorem dX5_rested_41 : decode cX5_rested 41 = .ok (.idiv, 1) := dk_108 (dk_at dksX5_rested_1 18 rfl rfl)
theorem dX5_rested_42 : decode cX5_rested 42 = .ok (.istore_n 3, 1) := dk_62 (dk_at dksX5_rested_1 19 rfl rfl)
theorem dX5_rested_43 : decode cX5_rested 43 = .ok (.iinc 4 1, 3) := dk_132 4 1 (dk_at dksX5_rested_1 20 rfl rfl)
theorem dX5_rested_46 : decode cX5_rested 46 = .ok (.goto (-39), 3) := dk_167 255 217 (dk_at dksX5_rested_2 0 rfl rfl)
theorem dX5_rested_49 : decode cX5_rested 49 = .ok (.iload_n 2, 1) := dk_28 (dk_at dksX5_rested_2 3 rfl rfl)
theorem dX5_rested_50 : decode cX5_rested 50 = .ok (.ireturn, 1) := dk_172 (dk_at dksX5_rested_2 4 rfl rfl)
abbrev cX5_behind : ByteArray := prog_12_method_5_code
def yX5_behind : MethodName := ⟨RX5, "behind", "(II)I"⟩
def dkwX5_behind_3 : List UInt8 := [180, 0, 41, 104, 54, 4, 132, 6, 1, 167, 255, 188, 29, 172]
abbrev dktX5_behind_3 : List UInt8 := dkwX5_behind_3 ++ []
def dkwX5_behind_2 : List UInt8 := [180, 0, 41, 112, 4, 100, 184, 0, 73, 104, 96, 62, 21, 5, 42, 180, 0, 41, 108, 54, 5, 21, 4, 42]
abbrev dktX5_behind_2 : List UInt8 := dkwX5_behind_2 ++ dktX5_behind_3
def dkwX5_behind_1 : List UInt8 := [21, 6, 122, 4, 126, 4, 160, 0, 12, 42, 180, 0, 41, 4, 100, 167, 0, 16, 3, 21, 5, 42]
abbrev dktX5_behind_1 : List UInt8 := dkwX5_behind_1 ++ dktX5_behind_2
def dkwX5_behind_0 : List UInt8 := [3, 62, 4, 54, 4, 27, 54, 5, 3, 54, 6, 21, 6, 42, 180, 0, 28, 162, 0, 65, 29, 21, 4, 28]
abbrev dktX5_behind_0 : List UInt8 := dkwX5_behind_0 ++ dktX5_behind_1
theorem dksX5_behind_0 : cX5_behind.data.toList.drop 0 = dktX5_behind_0 := by decide +kernel
theorem dksX5_behind_1 : cX5_behind.data.toList.drop 24 = dktX5_behind_1 := dk_seg dksX5_behind_0 24 rfl rfl
theorem dksX5_behind_2 : cX5_behind.data.toList.drop 46 = dktX5_behind_2 := dk_seg dksX5_behind_1 22 rfl rfl
theorem dksX5_behind_3 : cX5_behind.data.toList.drop 70 = dktX5_behind_3 := dk_seg dksX5_behind_2 24 rfl rfl
theorem dX5_behind_0 : decode cX5_behind 0 = .ok (.iconst 0, 1) := dk_3 (dk_at dksX5_behind_0 0 rfl rfl)
theorem dX5_behind_1 : decode cX5_behind 1 = .ok (.istore_n 3, 1) := dk_62 (dk_at dksX5_behind_0 1 rfl rfl)
theorem dX5_behind_2 : decode cX5_behind 2 = .ok (.iconst 1, 1) := dk_4 (dk_at dksX5_behind_0 2 rfl rfl)
theorem dX5_behind_3 : decode cX5_behind 3 = .ok (.istore 4, 2) := dk_54 4 (dk_at dksX5_behind_0 3 rfl rfl)
theorem dX5_behind_5 : decode cX5_behind 5 = .ok (.iload_n 1, 1) := dk_27 (dk_at dksX5_behind_0 5 rfl rfl)
theorem dX5_behind_6 : decode cX5_behind 6 = .ok (.istore 5, 2) := dk_54 5 (dk_at dksX5_behind_0 6 rfl rfl)
theorem dX5_behind_8 : decode cX5_behind 8 = .ok (.iconst 0, 1) := dk_3 (dk_at dksX5_behind_0 8 rfl rfl)
theorem dX5_behind_9 : decode cX5_behind 9 = .ok (.istore 6, 2) := dk_54 6 (dk_at dksX5_behind_0 9 rfl rfl)
theorem dX5_behind_11 : decode cX5_behind 11 = .ok (.iload 6, 2) := dk_21 6 (dk_at dksX5_behind_0 11 rfl rfl)
theorem dX5_behind_13 : decode cX5_behind 13 = .ok (.aload_n 0, 1) := dk_42 (dk_at dksX5_behind_0 13 rfl rfl)
theorem dX5_behind_14 : decode cX5_behind 14 = .ok (.getfield 28, 3) := dk_180 0 28 (dk_at dksX5_behind_0 14 rfl rfl)
theorem dX5_behind_17 : decode cX5_behind 17 = .ok (.if_icmp .ge 65, 3) := dk_162 0 65 (dk_at dksX5_behind_0 17 rfl rfl)
theorem dX5_behind_20 : decode cX5_behind 20 = .ok (.iload_n 3, 1) := dk_29 (dk_at dksX5_behind_0 20 rfl rfl)
theorem dX5_behind_21 : decode cX5_behind 21 = .ok (.iload 4, 2) := dk_21 4 (dk_at dksX5_behind_0 21 rfl rfl)
theorem dX5_behind_23 : decode cX5_behind 23 = .ok (.iload_n 2, 1) := dk_28 (dk_at dksX5_behind_0 23 rfl rfl)
theorem dX5_behind_24 : decode cX5_behind 24 = .ok (.iload 6, 2) := dk_21 6 (dk_at dksX5_behind_1 0 rfl rfl)
theorem dX5_behind_26 : decode cX5_behind 26 = .ok (.ishr, 1) := dk_122 (dk_at dksX5_behind_1 2 rfl rfl)
theorem dX5_behind_27 : decode cX5_behind 27 = .ok (.iconst 1, 1) := dk_4 (dk_at dksX5_behind_1 3 rfl rfl)
theorem dX5_behind_28 : decode cX5_behind 28 = .ok (.iand, 1) := dk_126 (dk_at dksX5_behind_1 4 rfl rfl)
theorem dX5_behind_29 : decode cX5_behind 29 = .ok (.iconst 1, 1) := dk_4 (dk_at dksX5_behind_1 5 rfl rfl)
theorem dX5_behind_30 : decode cX5_behind 30 = .ok (.if_icmp .ne 12, 3) := dk_160 0 12 (dk_at dksX5_behind_1 6 rfl rfl)
theorem dX5_behind_33 : decode cX5_behind 33 = .ok (.aload_n 0, 1) := dk_42 (dk_at dksX5_behind_1 9 rfl rfl)
theorem dX5_behind_34 : decode cX5_behind 34 = .ok (.getfield 41, 3) := dk_180 0 41 (dk_at dksX5_behind_1 10 rfl rfl)
theorem dX5_behind_37 : decode cX5_behind 37 = .ok (.iconst 1, 1) := dk_4 (dk_at dksX5_behind_1 13 rfl rfl)
theorem dX5_behind_38 : decode cX5_behind 38 = .ok (.isub, 1) := dk_100 (dk_at dksX5_behind_1 14 rfl rfl)
theorem dX5_behind_39 : decode cX5_behind 39 = .ok (.goto 16, 3) := dk_167 0 16 (dk_at dksX5_behind_1 15 rfl rfl)
theorem dX5_behind_42 : decode cX5_behind 42 = .ok (.iconst 0, 1) := dk_3 (dk_at dksX5_behind_1 18 rfl rfl)
theorem dX5_behind_43 : decode cX5_behind 43 = .ok (.iload 5, 2) := dk_21 5 (dk_at dksX5_behind_1 19 rfl rfl)
theorem dX5_behind_45 : decode cX5_behind 45 = .ok (.aload_n 0, 1) := dk_42 (dk_at dksX5_behind_1 21 rfl rfl)
theorem dX5_behind_46 : decode cX5_behind 46 = .ok (.getfield 41, 3) := dk_180 0 41 (dk_at dksX5_behind_2 0 rfl rfl)
theorem dX5_behind_49 : decode cX5_behind 49 = .ok (.irem, 1) := dk_112 (dk_at dksX5_behind_2 3 rfl rfl)
theorem dX5_behind_50 : decode cX5_behind 50 = .ok (.iconst 1, 1) := dk_4 (dk_at dksX5_behind_2 4 rfl rfl)
theorem dX5_behind_51 : decode cX5_behind 51 = .ok (.isub, 1) := dk_100 (dk_at dksX5_behind_2 5 rfl rfl)
theorem dX5_behind_52 : decode cX5_behind 52 = .ok (.invokestatic 73, 3) := dk_184 0 73 (dk_at dksX5_behind_2 6 rfl rfl)
theorem dX5_behind_55 : decode cX5_behind 55 = .ok (.imul, 1) := dk_104 (dk_at dksX5_behind_2 9 rfl rfl)
theorem dX5_behind_56 : decode cX5_behind 56 = .ok (.iadd, 1) := dk_96 (dk_at dksX5_behind_2 10 rfl rfl)
theorem dX5_behind_57 : decode cX5_behind 57 = .ok (.istore_n 3, 1) := dk_62 (dk_at dksX5_behind_2 11 rfl rfl)
theorem dX5_behind_58 : decode cX5_behind 58 = .ok (.iload 5, 2) := dk_21 5 (dk_at dksX5_behind_2 12 rfl rfl)
theorem dX5_behind_60 : decode cX5_behind 60 = .ok (.aload_n 0, 1) := dk_42 (dk_at dksX5_behind_2 14 rfl rfl)
theorem dX5_behind_61 : decode cX5_behind 61 = .ok (.getfield 41, 3) := dk_180 0 41 (dk_at dksX5_behind_2 15 rfl rfl)
theorem dX5_behind_64 : decode cX5_behind 64 = .ok (.idiv, 1) := dk_108 (dk_at dksX5_behind_2 18 rfl rfl)
theorem dX5_behind_65 : decode cX5_behind 65 = .ok (.istore 5, 2) := dk_54 5 (dk_at dksX5_behind_2 19 rfl rfl)
theorem dX5_behind_67 : decode cX5_behind 67 = .ok (.iload 4, 2) := dk_21 4 (dk_at dksX5_behind_2 21 rfl rfl)
theorem dX5_behind_69 : decode cX5_behind 69 = .ok (.aload_n 0, 1) := dk_42 (dk_at dksX5_behind_2 23 rfl rfl)
theorem dX5_behind_70 : decode cX5_behind 70 = .ok (.getfield 41, 3) := dk_180 0 41 (dk_at dksX5_behind_3 0 rfl rfl)
theorem dX5_behind_73 : decode cX5_behind 73 = .ok (.imul, 1) := dk_104 (dk_at dksX5_behind_3 3 rfl rfl)
theorem dX5_behind_74 : decode cX5_behind 74 = .ok (.istore 4, 2) := dk_54 4 (dk_at dksX5_behind_3 4 rfl rfl)
theorem dX5_behind_76 : decode cX5_behind 76 = .ok (.iinc 6 1, 3) := dk_132 6 1 (dk_at dksX5_behind_3 6 rfl rfl)
theorem dX5_behind_79 : decode cX5_behind 79 = .ok (.goto (-68), 3) := dk_167 255 188 (dk_at dksX5_behind_3 9 rfl rfl)
theorem dX5_behind_82 : decode cX5_behind 82 = .ok (.iload_n 3, 1) := dk_29 (dk_at dksX5_behind_3 12 rfl rfl)
theorem dX5_behind_83 : decode cX5_behind 83 = .ok (.ireturn, 1) := dk_172 (dk_at dksX5_behind_3 13 rfl rfl)
abbrev cX5_first : ByteArray := prog_12_method_8_code
def yX5_first : MethodName := ⟨RX5, "first", "(I)I"⟩
def dkwX5_first_1 : List UInt8 := [3, 28, 182, 0, 103, 46, 96, 27, 162, 0, 9, 132, 2, 1, 167, 255, 220, 28, 172]
abbrev dktX5_first_1 : List UInt8 := dkwX5_first_1 ++ []
def dkwX5_first_0 : List UInt8 := [3, 61, 28, 184, 0, 98, 42, 180, 0, 44, 163, 0, 25, 42, 180, 0, 19, 28, 46, 42, 180, 0, 25, 42]
abbrev dktX5_first_0 : List UInt8 := dkwX5_first_0 ++ dktX5_first_1
theorem dksX5_first_0 : cX5_first.data.toList.drop 0 = dktX5_first_0 := by decide +kernel
theorem dksX5_first_1 : cX5_first.data.toList.drop 24 = dktX5_first_1 := dk_seg dksX5_first_0 24 rfl rfl
theorem dX5_first_0 : decode cX5_first 0 = .ok (.iconst 0, 1) := dk_3 (dk_at dksX5_first_0 0 rfl rfl)
theorem dX5_first_1 : decode cX5_first 1 = .ok (.istore_n 2, 1) := dk_61 (dk_at dksX5_first_0 1 rfl rfl)
theorem dX5_first_2 : decode cX5_first 2 = .ok (.iload_n 2, 1) := dk_28 (dk_at dksX5_first_0 2 rfl rfl)
theorem dX5_first_3 : decode cX5_first 3 = .ok (.invokestatic 98, 3) := dk_184 0 98 (dk_at dksX5_first_0 3 rfl rfl)
theorem dX5_first_6 : decode cX5_first 6 = .ok (.aload_n 0, 1) := dk_42 (dk_at dksX5_first_0 6 rfl rfl)
theorem dX5_first_7 : decode cX5_first 7 = .ok (.getfield 44, 3) := dk_180 0 44 (dk_at dksX5_first_0 7 rfl rfl)
theorem dX5_first_10 : decode cX5_first 10 = .ok (.if_icmp .gt 25, 3) := dk_163 0 25 (dk_at dksX5_first_0 10 rfl rfl)
theorem dX5_first_13 : decode cX5_first 13 = .ok (.aload_n 0, 1) := dk_42 (dk_at dksX5_first_0 13 rfl rfl)
theorem dX5_first_14 : decode cX5_first 14 = .ok (.getfield 19, 3) := dk_180 0 19 (dk_at dksX5_first_0 14 rfl rfl)
theorem dX5_first_17 : decode cX5_first 17 = .ok (.iload_n 2, 1) := dk_28 (dk_at dksX5_first_0 17 rfl rfl)
theorem dX5_first_18 : decode cX5_first 18 = .ok (.iaload, 1) := dk_46 (dk_at dksX5_first_0 18 rfl rfl)
theorem dX5_first_19 : decode cX5_first 19 = .ok (.aload_n 0, 1) := dk_42 (dk_at dksX5_first_0 19 rfl rfl)
theorem dX5_first_20 : decode cX5_first 20 = .ok (.getfield 25, 3) := dk_180 0 25 (dk_at dksX5_first_0 20 rfl rfl)
theorem dX5_first_23 : decode cX5_first 23 = .ok (.aload_n 0, 1) := dk_42 (dk_at dksX5_first_0 23 rfl rfl)
theorem dX5_first_24 : decode cX5_first 24 = .ok (.iconst 0, 1) := dk_3 (dk_at dksX5_first_1 0 rfl rfl)
theorem dX5_first_25 : decode cX5_first 25 = .ok (.iload_n 2, 1) := dk_28 (dk_at dksX5_first_1 1 rfl rfl)
theorem dX5_first_26 : decode cX5_first 26 = .ok (.invokevirtual 103, 3) := dk_182 0 103 (dk_at dksX5_first_1 2 rfl rfl)
theorem dX5_first_29 : decode cX5_first 29 = .ok (.iaload, 1) := dk_46 (dk_at dksX5_first_1 5 rfl rfl)
theorem dX5_first_30 : decode cX5_first 30 = .ok (.iadd, 1) := dk_96 (dk_at dksX5_first_1 6 rfl rfl)
theorem dX5_first_31 : decode cX5_first 31 = .ok (.iload_n 1, 1) := dk_27 (dk_at dksX5_first_1 7 rfl rfl)
theorem dX5_first_32 : decode cX5_first 32 = .ok (.if_icmp .ge 9, 3) := dk_162 0 9 (dk_at dksX5_first_1 8 rfl rfl)
theorem dX5_first_35 : decode cX5_first 35 = .ok (.iinc 2 1, 3) := dk_132 2 1 (dk_at dksX5_first_1 11 rfl rfl)
theorem dX5_first_38 : decode cX5_first 38 = .ok (.goto (-36), 3) := dk_167 255 220 (dk_at dksX5_first_1 14 rfl rfl)
theorem dX5_first_41 : decode cX5_first 41 = .ok (.iload_n 2, 1) := dk_28 (dk_at dksX5_first_1 17 rfl rfl)
theorem dX5_first_42 : decode cX5_first 42 = .ok (.ireturn, 1) := dk_172 (dk_at dksX5_first_1 18 rfl rfl)
theorem q83 : (Jvm.Cond.initialized "StepDebts$Plan") ∈ lw_all := lw_g (lw_at lw_m1 8 rfl) rfl
theorem q170 : (Jvm.Cond.fieldLinkNest "StepDebts$Plan" (36 : Nat) "StepDebts$World" "rest" "I" "StepDebts") ∈ lw_tbl := lw_at lw_m1 95 rfl
theorem q182 : (Jvm.Cond.fieldLinkNest "StepDebts$Plan" (47 : Nat) "StepDebts$World" "walkers" "Ljava/util/ArrayList;" "StepDebts") ∈ lw_tbl := lw_at lw_m1 107 rfl
theorem q185 : (Jvm.Cond.fieldLinkNest "StepDebts$Plan" (66 : Nat) "StepDebts$World" "turns" "Ljava/util/ArrayList;" "StepDebts") ∈ lw_tbl := lw_at lw_m1 110 rfl
theorem q287 : (Jvm.Cond.instantiable "StepDebts$Plan" (9 : Nat)) ∈ lw_all := lw_g (lw_at lw_m1 212 rfl) rfl
theorem q289 : (Jvm.Cond.instanceMethod ({ cls := "StepDebts$Plan", name := "<init>", desc := "(LStepDebts;)V" } : Jvm.MethodName)) ∈ lw_all := lw_g (lw_at lw_m1 214 rfl) rfl
theorem q290 : (Jvm.Cond.code ({ cls := "StepDebts$Plan", name := "<init>", desc := "(LStepDebts;)V" } : Jvm.MethodName) prog_12_method_1_code (2 : Nat) (Option.none : Option Jvm.ClassFile.FieldType)) ∈ lw_all := lw_g (lw_at lw_m1 215 rfl) rfl
theorem q291 : (Jvm.Cond.methodLink "StepDebts$Plan" (9 : Nat) ({ cls := "java/lang/Object", name := "<init>", desc := "()V" } : Jvm.MethodName)) ∈ lw_all := lw_g (lw_at lw_m1 216 rfl) rfl
theorem q292 : (Jvm.Cond.fieldLink "StepDebts$Plan" (15 : Nat) "StepDebts$Plan" "counts" "[I") ∈ lw_all := lw_g (lw_at lw_m1 217 rfl) rfl
theorem q293 : (Jvm.Cond.fieldLink "StepDebts$Plan" (19 : Nat) "StepDebts$Plan" "sums" "[I") ∈ lw_all := lw_g (lw_at lw_m1 218 rfl) rfl
theorem q294 : (Jvm.Cond.fieldLink "StepDebts$Plan" (22 : Nat) "StepDebts$Plan" "now" "[I") ∈ lw_all := lw_g (lw_at lw_m1 219 rfl) rfl
theorem q295 : (Jvm.Cond.fieldLink "StepDebts$Plan" (25 : Nat) "StepDebts$Plan" "next" "[I") ∈ lw_all := lw_g (lw_at lw_m1 220 rfl) rfl
theorem q296 : (Jvm.Cond.fieldLink "StepDebts$Plan" (28 : Nat) "StepDebts$Plan" "many" "I") ∈ lw_all := lw_g (lw_at lw_m1 221 rfl) rfl
theorem q297 : (Jvm.Cond.fieldLink "StepDebts$Plan" (41 : Nat) "StepDebts$Plan" "base" "I") ∈ lw_all := lw_g (lw_at lw_m1 222 rfl) rfl
theorem q298 : (Jvm.Cond.fieldLink "StepDebts$Plan" (44 : Nat) "StepDebts$Plan" "line" "I") ∈ lw_all := lw_g (lw_at lw_m1 223 rfl) rfl
theorem q299 : (Jvm.Cond.fieldLink "StepDebts$Plan" (85 : Nat) "StepDebts$Plan" "days" "I") ∈ lw_all := lw_g (lw_at lw_m1 224 rfl) rfl
theorem q300 : (Jvm.Cond.fieldLink "StepDebts$Plan" (3 : Nat) "StepDebts$Plan" "this$0" "LStepDebts;") ∈ lw_all := lw_g (lw_at lw_m1 225 rfl) rfl
theorem q301 : (Jvm.Cond.laysFinal "StepDebts$Plan" "StepDebts$Plan" "counts" "[I") ∈ lw_all := lw_g (lw_at lw_m1 226 rfl) rfl
theorem q302 : (Jvm.Cond.soleField "StepDebts$Plan" "counts") ∈ lw_all := lw_g (lw_at lw_m1 227 rfl) rfl
theorem q303 : (Jvm.Cond.laysFinal "StepDebts$Plan" "StepDebts$Plan" "sums" "[I") ∈ lw_all := lw_g (lw_at lw_m1 228 rfl) rfl
theorem q304 : (Jvm.Cond.soleField "StepDebts$Plan" "sums") ∈ lw_all := lw_g (lw_at lw_m1 229 rfl) rfl
theorem q305 : (Jvm.Cond.lays "StepDebts$Plan" "StepDebts$Plan" "now" "[I") ∈ lw_all := lw_g (lw_at lw_m1 230 rfl) rfl
theorem q306 : (Jvm.Cond.soleField "StepDebts$Plan" "now") ∈ lw_all := lw_g (lw_at lw_m1 231 rfl) rfl
theorem q307 : (Jvm.Cond.lays "StepDebts$Plan" "StepDebts$Plan" "next" "[I") ∈ lw_all := lw_g (lw_at lw_m1 232 rfl) rfl
theorem q308 : (Jvm.Cond.soleField "StepDebts$Plan" "next") ∈ lw_all := lw_g (lw_at lw_m1 233 rfl) rfl
theorem q309 : (Jvm.Cond.lays "StepDebts$Plan" "StepDebts$Plan" "many" "I") ∈ lw_all := lw_g (lw_at lw_m1 234 rfl) rfl
theorem q310 : (Jvm.Cond.soleField "StepDebts$Plan" "many") ∈ lw_all := lw_g (lw_at lw_m1 235 rfl) rfl
theorem q311 : (Jvm.Cond.lays "StepDebts$Plan" "StepDebts$Plan" "base" "I") ∈ lw_all := lw_g (lw_at lw_m1 236 rfl) rfl
theorem q312 : (Jvm.Cond.soleField "StepDebts$Plan" "base") ∈ lw_all := lw_g (lw_at lw_m1 237 rfl) rfl
theorem q313 : (Jvm.Cond.lays "StepDebts$Plan" "StepDebts$Plan" "line" "I") ∈ lw_all := lw_g (lw_at lw_m1 238 rfl) rfl
theorem q314 : (Jvm.Cond.soleField "StepDebts$Plan" "line") ∈ lw_all := lw_g (lw_at lw_m1 239 rfl) rfl
theorem q315 : (Jvm.Cond.lays "StepDebts$Plan" "StepDebts$Plan" "days" "I") ∈ lw_all := lw_g (lw_at lw_m2 0 rfl) rfl
theorem q316 : (Jvm.Cond.soleField "StepDebts$Plan" "days") ∈ lw_all := lw_g (lw_at lw_m2 1 rfl) rfl
theorem q317 : (Jvm.Cond.laysFinal "StepDebts$Plan" "StepDebts$Plan" "this$0" "LStepDebts;") ∈ lw_all := lw_g (lw_at lw_m2 2 rfl) rfl
theorem q318 : (Jvm.Cond.soleField "StepDebts$Plan" "this$0") ∈ lw_all := lw_g (lw_at lw_m2 3 rfl) rfl
theorem q319 : (Jvm.Cond.superclass "StepDebts$Plan" "java/lang/Object") ∈ lw_all := lw_g (lw_at lw_m2 4 rfl) rfl
theorem q321 : (Jvm.Cond.fieldLinkNest "StepDebts$Plan" (32 : Nat) "StepDebts" "world" "LStepDebts$World;" "StepDebts") ∈ lw_tbl := lw_at lw_m2 6 rfl
theorem q454 : (Jvm.Cond.fieldLinkNest "StepDebts$Plan" (63 : Nat) "StepDebts$Walker" "house" "I" "StepDebts") ∈ lw_tbl := lw_at lw_m2 139 rfl
theorem q505 : (Jvm.Cond.selects "StepDebts$Plan" ({ cls := "java/lang/Object", name := "getClass", desc := "()Ljava/lang/Class;" } : Jvm.MethodName) ({ cls := "java/lang/Object", name := "getClass", desc := "()Ljava/lang/Class;" } : Jvm.MethodName)) ∈ lw_all := lw_g (lw_at lw_m2 190 rfl) rfl
theorem q1676 : (Jvm.Cond.instanceMethod ({ cls := "StepDebts$Plan", name := "begins", desc := "(II)V" } : Jvm.MethodName)) ∈ lw_all := lw_g (lw_at lw_m7 161 rfl) rfl
theorem q1677 : (Jvm.Cond.selects "StepDebts$Plan" ({ cls := "StepDebts$Plan", name := "begins", desc := "(II)V" } : Jvm.MethodName) ({ cls := "StepDebts$Plan", name := "begins", desc := "(II)V" } : Jvm.MethodName)) ∈ lw_all := lw_g (lw_at lw_m7 162 rfl) rfl
theorem q1678 : (Jvm.Cond.code ({ cls := "StepDebts$Plan", name := "begins", desc := "(II)V" } : Jvm.MethodName) prog_12_method_2_code (5 : Nat) (Option.none : Option Jvm.ClassFile.FieldType)) ∈ lw_all := lw_g (lw_at lw_m7 163 rfl) rfl
theorem q1679 : (Jvm.Cond.methodLink "StepDebts$Plan" (51 : Nat) ({ cls := "java/util/ArrayList", name := "size", desc := "()I" } : Jvm.MethodName)) ∈ lw_all := lw_g (lw_at lw_m7 164 rfl) rfl
theorem q1680 : (Jvm.Cond.methodLink "StepDebts$Plan" (57 : Nat) ({ cls := "java/util/ArrayList", name := "get", desc := "(I)Ljava/lang/Object;" } : Jvm.MethodName)) ∈ lw_all := lw_g (lw_at lw_m7 165 rfl) rfl
theorem q1681 : (Jvm.Cond.classLink "StepDebts$Plan" (61 : Nat) "StepDebts$Walker") ∈ lw_all := lw_g (lw_at lw_m7 166 rfl) rfl
theorem q1682 : (Jvm.Cond.methodLinkNest "StepDebts$Plan" (69 : Nat) ({ cls := "StepDebts", name := "counted", desc := "(IIIZ)I" } : Jvm.MethodName) "StepDebts") ∈ lw_tbl := lw_at lw_m7 167 rfl
theorem q1684 : (Jvm.Cond.instanceMethod ({ cls := "StepDebts$Plan", name := "fewest", desc := "(I)I" } : Jvm.MethodName)) ∈ lw_all := lw_g (lw_at lw_m7 169 rfl) rfl
theorem q1685 : (Jvm.Cond.selects "StepDebts$Plan" ({ cls := "StepDebts$Plan", name := "fewest", desc := "(I)I" } : Jvm.MethodName) ({ cls := "StepDebts$Plan", name := "fewest", desc := "(I)I" } : Jvm.MethodName)) ∈ lw_all := lw_g (lw_at lw_m7 170 rfl) rfl
theorem q1686 : (Jvm.Cond.code ({ cls := "StepDebts$Plan", name := "fewest", desc := "(I)I" } : Jvm.MethodName) prog_12_method_6_code (4 : Nat) (Option.some Jvm.ClassFile.FieldType.int)) ∈ lw_all := lw_g (lw_at lw_m7 171 rfl) rfl
theorem q1687 : (Jvm.Cond.methodLink "StepDebts$Plan" (79 : Nat) ({ cls := "java/util/Arrays", name := "fill", desc := "([II)V" } : Jvm.MethodName)) ∈ lw_all := lw_g (lw_at lw_m7 172 rfl) rfl
theorem q1690 : (Jvm.Cond.methodLink "StepDebts$Plan" (88 : Nat) ({ cls := "StepDebts$Plan", name := "states", desc := "()I" } : Jvm.MethodName)) ∈ lw_all := lw_g (lw_at lw_m7 175 rfl) rfl
theorem q1691 : (Jvm.Cond.privateMethod ({ cls := "StepDebts$Plan", name := "states", desc := "()I" } : Jvm.MethodName)) ∈ lw_tbl := lw_at lw_m7 176 rfl
theorem q1692 : (Jvm.Cond.instanceMethod ({ cls := "StepDebts$Plan", name := "states", desc := "()I" } : Jvm.MethodName)) ∈ lw_all := lw_g (lw_at lw_m7 177 rfl) rfl
theorem q1693 : (Jvm.Cond.code ({ cls := "StepDebts$Plan", name := "states", desc := "()I" } : Jvm.MethodName) prog_12_method_3_code (3 : Nat) (Option.some Jvm.ClassFile.FieldType.int)) ∈ lw_all := lw_g (lw_at lw_m7 178 rfl) rfl
theorem q1694 : (Jvm.Cond.methodLink "StepDebts$Plan" (91 : Nat) ({ cls := "StepDebts$Plan", name := "most", desc := "(I)I" } : Jvm.MethodName)) ∈ lw_all := lw_g (lw_at lw_m7 179 rfl) rfl
theorem q1695 : (Jvm.Cond.privateMethod ({ cls := "StepDebts$Plan", name := "most", desc := "(I)I" } : Jvm.MethodName)) ∈ lw_tbl := lw_at lw_m7 180 rfl
theorem q1696 : (Jvm.Cond.instanceMethod ({ cls := "StepDebts$Plan", name := "most", desc := "(I)I" } : Jvm.MethodName)) ∈ lw_all := lw_g (lw_at lw_m7 181 rfl) rfl
theorem q1697 : (Jvm.Cond.code ({ cls := "StepDebts$Plan", name := "most", desc := "(I)I" } : Jvm.MethodName) prog_12_method_7_code (5 : Nat) (Option.some Jvm.ClassFile.FieldType.int)) ∈ lw_all := lw_g (lw_at lw_m7 182 rfl) rfl
theorem q1698 : (Jvm.Cond.methodLink "StepDebts$Plan" (95 : Nat) ({ cls := "StepDebts$Plan", name := "rested", desc := "(I)I" } : Jvm.MethodName)) ∈ lw_all := lw_g (lw_at lw_m7 183 rfl) rfl
theorem q1699 : (Jvm.Cond.privateMethod ({ cls := "StepDebts$Plan", name := "rested", desc := "(I)I" } : Jvm.MethodName)) ∈ lw_tbl := lw_at lw_m7 184 rfl
theorem q1700 : (Jvm.Cond.instanceMethod ({ cls := "StepDebts$Plan", name := "rested", desc := "(I)I" } : Jvm.MethodName)) ∈ lw_all := lw_g (lw_at lw_m7 185 rfl) rfl
theorem q1701 : (Jvm.Cond.code ({ cls := "StepDebts$Plan", name := "rested", desc := "(I)I" } : Jvm.MethodName) prog_12_method_4_code (5 : Nat) (Option.some Jvm.ClassFile.FieldType.int)) ∈ lw_all := lw_g (lw_at lw_m7 186 rfl) rfl
theorem q1702 : (Jvm.Cond.methodLink "StepDebts$Plan" (98 : Nat) ({ cls := "java/lang/Integer", name := "bitCount", desc := "(I)I" } : Jvm.MethodName)) ∈ lw_all := lw_g (lw_at lw_m7 187 rfl) rfl
theorem q1703 : (Jvm.Cond.methodLink "StepDebts$Plan" (103 : Nat) ({ cls := "StepDebts$Plan", name := "behind", desc := "(II)I" } : Jvm.MethodName)) ∈ lw_all := lw_g (lw_at lw_m7 188 rfl) rfl
theorem q1704 : (Jvm.Cond.privateMethod ({ cls := "StepDebts$Plan", name := "behind", desc := "(II)I" } : Jvm.MethodName)) ∈ lw_tbl := lw_at lw_m7 189 rfl
theorem q1705 : (Jvm.Cond.instanceMethod ({ cls := "StepDebts$Plan", name := "behind", desc := "(II)I" } : Jvm.MethodName)) ∈ lw_all := lw_g (lw_at lw_m7 190 rfl) rfl
theorem q1706 : (Jvm.Cond.code ({ cls := "StepDebts$Plan", name := "behind", desc := "(II)I" } : Jvm.MethodName) prog_12_method_5_code (7 : Nat) (Option.some Jvm.ClassFile.FieldType.int)) ∈ lw_all := lw_g (lw_at lw_m7 191 rfl) rfl
theorem q1707 : (Jvm.Cond.methodLink "StepDebts$Plan" (73 : Nat) ({ cls := "java/lang/Math", name := "max", desc := "(II)I" } : Jvm.MethodName)) ∈ lw_all := lw_g (lw_at lw_m7 192 rfl) rfl
theorem q1709 : (Jvm.Cond.instanceMethod ({ cls := "StepDebts$Plan", name := "first", desc := "(I)I" } : Jvm.MethodName)) ∈ lw_all := lw_g (lw_at lw_m7 194 rfl) rfl
theorem q1710 : (Jvm.Cond.selects "StepDebts$Plan" ({ cls := "StepDebts$Plan", name := "first", desc := "(I)I" } : Jvm.MethodName) ({ cls := "StepDebts$Plan", name := "first", desc := "(I)I" } : Jvm.MethodName)) ∈ lw_all := lw_g (lw_at lw_m7 195 rfl) rfl
theorem q1711 : (Jvm.Cond.code ({ cls := "StepDebts$Plan", name := "first", desc := "(I)I" } : Jvm.MethodName) prog_12_method_8_code (3 : Nat) (Option.some Jvm.ClassFile.FieldType.int)) ∈ lw_all := lw_g (lw_at lw_m7 196 rfl) rfl
theorem q2179 : (Jvm.Cond.castable "StepDebts$Plan" "java/lang/Object") ∈ lw_tbl := lw_at lw_m9 184 rfl
theorem in_X5 : ∀ w ∈ wsX50, w ∈ lw_all := lw_in wsX50 [301, 303, 305, 307, 309, 311, 313, 315, 317] (by decide +kernel) (by decide +kernel)
/-! StepDebts$Walker -/
set_option maxRecDepth 100000
def RX7 : String := "StepDebts$Walker"
def TX7 : u_T := fun k => match k with
  | 0 => ("StepDebts$Walker", "sort", "I", true)
  | 1 => ("StepDebts$Walker", "age", "I", true)
  | 2 => ("StepDebts$Walker", "zeal", "I", true)
  | _ => ("StepDebts$Walker", "house", "I", false)
def tyX7 : Nat → FieldType := fun k => match k with
  | 0 => .int
  | 1 => .int
  | 2 => .int
  | _ => .int
abbrev wsX70 : List Cond := u_ws RX7 TX7 4
theorem nmX7 : ∀ a, a < 4 → ∀ b, b < 4 → a ≠ b → (TX7 a).2.1 ≠ (TX7 b).2.1 := by decide +kernel
theorem tyX7_ok : ∀ k, k < 4 → parseFieldDescriptor (TX7 k).2.2.1 = some (tyX7 k) := by decide +kernel
abbrev cX7_copy : ByteArray := prog_19_method_2_code
def yX7_copy : MethodName := ⟨RX7, "copy", "()LStepDebts$Walker;"⟩
def dkwX7_copy_0 : List UInt8 := [187, 0, 8, 89, 42, 180, 0, 7, 42, 180, 0, 13, 42, 180, 0, 16, 42, 180, 0, 19, 183, 0, 22, 176]
abbrev dktX7_copy_0 : List UInt8 := dkwX7_copy_0 ++ []
theorem dksX7_copy_0 : cX7_copy.data.toList.drop 0 = dktX7_copy_0 := by decide +kernel
theorem dX7_copy_0 : decode cX7_copy 0 = .ok (.new 8, 3) := dk_187 0 8 (dk_at dksX7_copy_0 0 rfl rfl)
theorem dX7_copy_3 : decode cX7_copy 3 = .ok (.dup, 1) := dk_89 (dk_at dksX7_copy_0 3 rfl rfl)
theorem dX7_copy_4 : decode cX7_copy 4 = .ok (.aload_n 0, 1) := dk_42 (dk_at dksX7_copy_0 4 rfl rfl)
theorem dX7_copy_5 : decode cX7_copy 5 = .ok (.getfield 7, 3) := dk_180 0 7 (dk_at dksX7_copy_0 5 rfl rfl)
theorem dX7_copy_8 : decode cX7_copy 8 = .ok (.aload_n 0, 1) := dk_42 (dk_at dksX7_copy_0 8 rfl rfl)
theorem dX7_copy_9 : decode cX7_copy 9 = .ok (.getfield 13, 3) := dk_180 0 13 (dk_at dksX7_copy_0 9 rfl rfl)
theorem dX7_copy_12 : decode cX7_copy 12 = .ok (.aload_n 0, 1) := dk_42 (dk_at dksX7_copy_0 12 rfl rfl)
theorem dX7_copy_13 : decode cX7_copy 13 = .ok (.getfield 16, 3) := dk_180 0 16 (dk_at dksX7_copy_0 13 rfl rfl)
theorem dX7_copy_16 : decode cX7_copy 16 = .ok (.aload_n 0, 1) := dk_42 (dk_at dksX7_copy_0 16 rfl rfl)
theorem dX7_copy_17 : decode cX7_copy 17 = .ok (.getfield 19, 3) := dk_180 0 19 (dk_at dksX7_copy_0 17 rfl rfl)
theorem dX7_copy_20 : decode cX7_copy 20 = .ok (.invokespecial 22, 3) := dk_183 0 22 (dk_at dksX7_copy_0 20 rfl rfl)
theorem dX7_copy_23 : decode cX7_copy 23 = .ok (.areturn, 1) := dk_176 (dk_at dksX7_copy_0 23 rfl rfl)
abbrev cX7_init : ByteArray := prog_19_method_1_code
def yX7_init : MethodName := ⟨RX7, "<init>", "(IIII)V"⟩
def dkwX7_init_1 : List UInt8 := [181, 0, 19, 177]
abbrev dktX7_init_1 : List UInt8 := dkwX7_init_1 ++ []
def dkwX7_init_0 : List UInt8 := [42, 183, 0, 1, 42, 27, 181, 0, 7, 42, 28, 181, 0, 13, 42, 29, 181, 0, 16, 42, 21, 4]
abbrev dktX7_init_0 : List UInt8 := dkwX7_init_0 ++ dktX7_init_1
theorem dksX7_init_0 : cX7_init.data.toList.drop 0 = dktX7_init_0 := by decide +kernel
theorem dksX7_init_1 : cX7_init.data.toList.drop 22 = dktX7_init_1 := dk_seg dksX7_init_0 22 rfl rfl
theorem dX7_init_0 : decode cX7_init 0 = .ok (.aload_n 0, 1) := dk_42 (dk_at dksX7_init_0 0 rfl rfl)
theorem dX7_init_1 : decode cX7_init 1 = .ok (.invokespecial 1, 3) := dk_183 0 1 (dk_at dksX7_init_0 1 rfl rfl)
theorem dX7_init_4 : decode cX7_init 4 = .ok (.aload_n 0, 1) := dk_42 (dk_at dksX7_init_0 4 rfl rfl)
theorem dX7_init_5 : decode cX7_init 5 = .ok (.iload_n 1, 1) := dk_27 (dk_at dksX7_init_0 5 rfl rfl)
theorem dX7_init_6 : decode cX7_init 6 = .ok (.putfield 7, 3) := dk_181 0 7 (dk_at dksX7_init_0 6 rfl rfl)
theorem dX7_init_9 : decode cX7_init 9 = .ok (.aload_n 0, 1) := dk_42 (dk_at dksX7_init_0 9 rfl rfl)
theorem dX7_init_10 : decode cX7_init 10 = .ok (.iload_n 2, 1) := dk_28 (dk_at dksX7_init_0 10 rfl rfl)
theorem dX7_init_11 : decode cX7_init 11 = .ok (.putfield 13, 3) := dk_181 0 13 (dk_at dksX7_init_0 11 rfl rfl)
theorem dX7_init_14 : decode cX7_init 14 = .ok (.aload_n 0, 1) := dk_42 (dk_at dksX7_init_0 14 rfl rfl)
theorem dX7_init_15 : decode cX7_init 15 = .ok (.iload_n 3, 1) := dk_29 (dk_at dksX7_init_0 15 rfl rfl)
theorem dX7_init_16 : decode cX7_init 16 = .ok (.putfield 16, 3) := dk_181 0 16 (dk_at dksX7_init_0 16 rfl rfl)
theorem dX7_init_19 : decode cX7_init 19 = .ok (.aload_n 0, 1) := dk_42 (dk_at dksX7_init_0 19 rfl rfl)
theorem dX7_init_20 : decode cX7_init 20 = .ok (.iload 4, 2) := dk_21 4 (dk_at dksX7_init_0 20 rfl rfl)
theorem dX7_init_22 : decode cX7_init 22 = .ok (.putfield 19, 3) := dk_181 0 19 (dk_at dksX7_init_1 0 rfl rfl)
theorem dX7_init_25 : decode cX7_init 25 = .ok (.return_, 1) := dk_177 (dk_at dksX7_init_1 3 rfl rfl)
theorem q88 : (Jvm.Cond.initialized "StepDebts$Walker") ∈ lw_all := lw_g (lw_at lw_m1 13 rfl) rfl
theorem q438 : (Jvm.Cond.instanceMethod ({ cls := "StepDebts$Walker", name := "copy", desc := "()LStepDebts$Walker;" } : Jvm.MethodName)) ∈ lw_all := lw_g (lw_at lw_m2 123 rfl) rfl
theorem q439 : (Jvm.Cond.selects "StepDebts$Walker" ({ cls := "StepDebts$Walker", name := "copy", desc := "()LStepDebts$Walker;" } : Jvm.MethodName) ({ cls := "StepDebts$Walker", name := "copy", desc := "()LStepDebts$Walker;" } : Jvm.MethodName)) ∈ lw_all := lw_g (lw_at lw_m2 124 rfl) rfl
theorem q440 : (Jvm.Cond.code ({ cls := "StepDebts$Walker", name := "copy", desc := "()LStepDebts$Walker;" } : Jvm.MethodName) prog_19_method_2_code (1 : Nat) (Option.some (Jvm.ClassFile.FieldType.object "StepDebts$Walker"))) ∈ lw_all := lw_g (lw_at lw_m2 125 rfl) rfl
theorem q441 : (Jvm.Cond.classLink "StepDebts$Walker" (8 : Nat) "StepDebts$Walker") ∈ lw_all := lw_g (lw_at lw_m2 126 rfl) rfl
theorem q442 : (Jvm.Cond.instantiable "StepDebts$Walker" (4 : Nat)) ∈ lw_all := lw_g (lw_at lw_m2 127 rfl) rfl
theorem q443 : (Jvm.Cond.methodLink "StepDebts$Walker" (22 : Nat) ({ cls := "StepDebts$Walker", name := "<init>", desc := "(IIII)V" } : Jvm.MethodName)) ∈ lw_all := lw_g (lw_at lw_m2 128 rfl) rfl
theorem q444 : (Jvm.Cond.instanceMethod ({ cls := "StepDebts$Walker", name := "<init>", desc := "(IIII)V" } : Jvm.MethodName)) ∈ lw_all := lw_g (lw_at lw_m2 129 rfl) rfl
theorem q445 : (Jvm.Cond.code ({ cls := "StepDebts$Walker", name := "<init>", desc := "(IIII)V" } : Jvm.MethodName) prog_19_method_1_code (5 : Nat) (Option.none : Option Jvm.ClassFile.FieldType)) ∈ lw_all := lw_g (lw_at lw_m2 130 rfl) rfl
theorem q446 : (Jvm.Cond.methodLink "StepDebts$Walker" (1 : Nat) ({ cls := "java/lang/Object", name := "<init>", desc := "()V" } : Jvm.MethodName)) ∈ lw_all := lw_g (lw_at lw_m2 131 rfl) rfl
theorem q447 : (Jvm.Cond.fieldLink "StepDebts$Walker" (7 : Nat) "StepDebts$Walker" "sort" "I") ∈ lw_all := lw_g (lw_at lw_m2 132 rfl) rfl
theorem q449 : (Jvm.Cond.fieldLink "StepDebts$Walker" (13 : Nat) "StepDebts$Walker" "age" "I") ∈ lw_all := lw_g (lw_at lw_m2 134 rfl) rfl
theorem q451 : (Jvm.Cond.fieldLink "StepDebts$Walker" (19 : Nat) "StepDebts$Walker" "zeal" "I") ∈ lw_all := lw_g (lw_at lw_m2 136 rfl) rfl
theorem q453 : (Jvm.Cond.fieldLink "StepDebts$Walker" (16 : Nat) "StepDebts$Walker" "house" "I") ∈ lw_all := lw_g (lw_at lw_m2 138 rfl) rfl
theorem q456 : (Jvm.Cond.laysFinal "StepDebts$Walker" "StepDebts$Walker" "sort" "I") ∈ lw_all := lw_g (lw_at lw_m2 141 rfl) rfl
theorem q457 : (Jvm.Cond.soleField "StepDebts$Walker" "sort") ∈ lw_all := lw_g (lw_at lw_m2 142 rfl) rfl
theorem q458 : (Jvm.Cond.laysFinal "StepDebts$Walker" "StepDebts$Walker" "age" "I") ∈ lw_all := lw_g (lw_at lw_m2 143 rfl) rfl
theorem q459 : (Jvm.Cond.soleField "StepDebts$Walker" "age") ∈ lw_all := lw_g (lw_at lw_m2 144 rfl) rfl
theorem q460 : (Jvm.Cond.laysFinal "StepDebts$Walker" "StepDebts$Walker" "zeal" "I") ∈ lw_all := lw_g (lw_at lw_m2 145 rfl) rfl
theorem q461 : (Jvm.Cond.soleField "StepDebts$Walker" "zeal") ∈ lw_all := lw_g (lw_at lw_m2 146 rfl) rfl
theorem q462 : (Jvm.Cond.lays "StepDebts$Walker" "StepDebts$Walker" "house" "I") ∈ lw_all := lw_g (lw_at lw_m2 147 rfl) rfl
theorem q463 : (Jvm.Cond.soleField "StepDebts$Walker" "house") ∈ lw_all := lw_g (lw_at lw_m2 148 rfl) rfl
theorem q464 : (Jvm.Cond.superclass "StepDebts$Walker" "java/lang/Object") ∈ lw_all := lw_g (lw_at lw_m2 149 rfl) rfl
theorem q512 : (Jvm.Cond.selects "StepDebts$Walker" ({ cls := "java/lang/Object", name := "getClass", desc := "()Ljava/lang/Class;" } : Jvm.MethodName) ({ cls := "java/lang/Object", name := "getClass", desc := "()Ljava/lang/Class;" } : Jvm.MethodName)) ∈ lw_all := lw_g (lw_at lw_m2 197 rfl) rfl
theorem q2181 : (Jvm.Cond.castable "StepDebts$Walker" "java/lang/Object") ∈ lw_tbl := lw_at lw_m9 186 rfl
theorem in_X7 : ∀ w ∈ wsX70, w ∈ lw_all := lw_in wsX70 [456, 458, 460, 462] (by decide +kernel) (by decide +kernel)
/-! StepDebts$Turn -/
set_option maxRecDepth 100000
def RX8 : String := "StepDebts$Turn"
def TX8 : u_T := fun k => match k with
  | 0 => ("StepDebts$Turn", "length", "I", true)
  | 1 => ("StepDebts$Turn", "wear", "I", false)
  | _ => ("StepDebts$Turn", "mended", "I", false)
def tyX8 : Nat → FieldType := fun k => match k with
  | 0 => .int
  | 1 => .int
  | _ => .int
abbrev wsX80 : List Cond := u_ws RX8 TX8 3
theorem nmX8 : ∀ a, a < 3 → ∀ b, b < 3 → a ≠ b → (TX8 a).2.1 ≠ (TX8 b).2.1 := by decide +kernel
theorem tyX8_ok : ∀ k, k < 3 → parseFieldDescriptor (TX8 k).2.2.1 = some (tyX8 k) := by decide +kernel
abbrev cX8_copy : ByteArray := prog_18_method_2_code
def yX8_copy : MethodName := ⟨RX8, "copy", "()LStepDebts$Turn;"⟩
def dkwX8_copy_1 : List UInt8 := [180, 0, 19, 181, 0, 19, 43, 176]
abbrev dktX8_copy_1 : List UInt8 := dkwX8_copy_1 ++ []
def dkwX8_copy_0 : List UInt8 := [187, 0, 8, 89, 42, 180, 0, 7, 183, 0, 13, 76, 43, 42, 180, 0, 16, 181, 0, 16, 43, 42]
abbrev dktX8_copy_0 : List UInt8 := dkwX8_copy_0 ++ dktX8_copy_1
theorem dksX8_copy_0 : cX8_copy.data.toList.drop 0 = dktX8_copy_0 := by decide +kernel
theorem dksX8_copy_1 : cX8_copy.data.toList.drop 22 = dktX8_copy_1 := dk_seg dksX8_copy_0 22 rfl rfl
theorem dX8_copy_0 : decode cX8_copy 0 = .ok (.new 8, 3) := dk_187 0 8 (dk_at dksX8_copy_0 0 rfl rfl)
theorem dX8_copy_3 : decode cX8_copy 3 = .ok (.dup, 1) := dk_89 (dk_at dksX8_copy_0 3 rfl rfl)
theorem dX8_copy_4 : decode cX8_copy 4 = .ok (.aload_n 0, 1) := dk_42 (dk_at dksX8_copy_0 4 rfl rfl)
theorem dX8_copy_5 : decode cX8_copy 5 = .ok (.getfield 7, 3) := dk_180 0 7 (dk_at dksX8_copy_0 5 rfl rfl)
theorem dX8_copy_8 : decode cX8_copy 8 = .ok (.invokespecial 13, 3) := dk_183 0 13 (dk_at dksX8_copy_0 8 rfl rfl)
theorem dX8_copy_11 : decode cX8_copy 11 = .ok (.astore_n 1, 1) := dk_76 (dk_at dksX8_copy_0 11 rfl rfl)
theorem dX8_copy_12 : decode cX8_copy 12 = .ok (.aload_n 1, 1) := dk_43 (dk_at dksX8_copy_0 12 rfl rfl)
theorem dX8_copy_13 : decode cX8_copy 13 = .ok (.aload_n 0, 1) := dk_42 (dk_at dksX8_copy_0 13 rfl rfl)
theorem dX8_copy_14 : decode cX8_copy 14 = .ok (.getfield 16, 3) := dk_180 0 16 (dk_at dksX8_copy_0 14 rfl rfl)
theorem dX8_copy_17 : decode cX8_copy 17 = .ok (.putfield 16, 3) := dk_181 0 16 (dk_at dksX8_copy_0 17 rfl rfl)
theorem dX8_copy_20 : decode cX8_copy 20 = .ok (.aload_n 1, 1) := dk_43 (dk_at dksX8_copy_0 20 rfl rfl)
theorem dX8_copy_21 : decode cX8_copy 21 = .ok (.aload_n 0, 1) := dk_42 (dk_at dksX8_copy_0 21 rfl rfl)
theorem dX8_copy_22 : decode cX8_copy 22 = .ok (.getfield 19, 3) := dk_180 0 19 (dk_at dksX8_copy_1 0 rfl rfl)
theorem dX8_copy_25 : decode cX8_copy 25 = .ok (.putfield 19, 3) := dk_181 0 19 (dk_at dksX8_copy_1 3 rfl rfl)
theorem dX8_copy_28 : decode cX8_copy 28 = .ok (.aload_n 1, 1) := dk_43 (dk_at dksX8_copy_1 6 rfl rfl)
theorem dX8_copy_29 : decode cX8_copy 29 = .ok (.areturn, 1) := dk_176 (dk_at dksX8_copy_1 7 rfl rfl)
abbrev cX8_init : ByteArray := prog_18_method_1_code
def yX8_init : MethodName := ⟨RX8, "<init>", "(I)V"⟩
def dkwX8_init_0 : List UInt8 := [42, 183, 0, 1, 42, 27, 181, 0, 7, 177]
abbrev dktX8_init_0 : List UInt8 := dkwX8_init_0 ++ []
theorem dksX8_init_0 : cX8_init.data.toList.drop 0 = dktX8_init_0 := by decide +kernel
theorem dX8_init_0 : decode cX8_init 0 = .ok (.aload_n 0, 1) := dk_42 (dk_at dksX8_init_0 0 rfl rfl)
theorem dX8_init_1 : decode cX8_init 1 = .ok (.invokespecial 1, 3) := dk_183 0 1 (dk_at dksX8_init_0 1 rfl rfl)
theorem dX8_init_4 : decode cX8_init 4 = .ok (.aload_n 0, 1) := dk_42 (dk_at dksX8_init_0 4 rfl rfl)
theorem dX8_init_5 : decode cX8_init 5 = .ok (.iload_n 1, 1) := dk_27 (dk_at dksX8_init_0 5 rfl rfl)
theorem dX8_init_6 : decode cX8_init 6 = .ok (.putfield 7, 3) := dk_181 0 7 (dk_at dksX8_init_0 6 rfl rfl)
theorem dX8_init_9 : decode cX8_init 9 = .ok (.return_, 1) := dk_177 (dk_at dksX8_init_0 9 rfl rfl)
theorem q92 : (Jvm.Cond.initialized "StepDebts$Turn") ∈ lw_all := lw_g (lw_at lw_m1 17 rfl) rfl
theorem q511 : (Jvm.Cond.selects "StepDebts$Turn" ({ cls := "java/lang/Object", name := "getClass", desc := "()Ljava/lang/Class;" } : Jvm.MethodName) ({ cls := "java/lang/Object", name := "getClass", desc := "()Ljava/lang/Class;" } : Jvm.MethodName)) ∈ lw_all := lw_g (lw_at lw_m2 196 rfl) rfl
theorem q540 : (Jvm.Cond.instanceMethod ({ cls := "StepDebts$Turn", name := "copy", desc := "()LStepDebts$Turn;" } : Jvm.MethodName)) ∈ lw_all := lw_g (lw_at lw_m2 225 rfl) rfl
theorem q541 : (Jvm.Cond.selects "StepDebts$Turn" ({ cls := "StepDebts$Turn", name := "copy", desc := "()LStepDebts$Turn;" } : Jvm.MethodName) ({ cls := "StepDebts$Turn", name := "copy", desc := "()LStepDebts$Turn;" } : Jvm.MethodName)) ∈ lw_all := lw_g (lw_at lw_m2 226 rfl) rfl
theorem q542 : (Jvm.Cond.code ({ cls := "StepDebts$Turn", name := "copy", desc := "()LStepDebts$Turn;" } : Jvm.MethodName) prog_18_method_2_code (2 : Nat) (Option.some (Jvm.ClassFile.FieldType.object "StepDebts$Turn"))) ∈ lw_all := lw_g (lw_at lw_m2 227 rfl) rfl
theorem q543 : (Jvm.Cond.classLink "StepDebts$Turn" (8 : Nat) "StepDebts$Turn") ∈ lw_all := lw_g (lw_at lw_m2 228 rfl) rfl
theorem q544 : (Jvm.Cond.instantiable "StepDebts$Turn" (3 : Nat)) ∈ lw_all := lw_g (lw_at lw_m2 229 rfl) rfl
theorem q545 : (Jvm.Cond.methodLink "StepDebts$Turn" (13 : Nat) ({ cls := "StepDebts$Turn", name := "<init>", desc := "(I)V" } : Jvm.MethodName)) ∈ lw_all := lw_g (lw_at lw_m2 230 rfl) rfl
theorem q546 : (Jvm.Cond.instanceMethod ({ cls := "StepDebts$Turn", name := "<init>", desc := "(I)V" } : Jvm.MethodName)) ∈ lw_all := lw_g (lw_at lw_m2 231 rfl) rfl
theorem q547 : (Jvm.Cond.code ({ cls := "StepDebts$Turn", name := "<init>", desc := "(I)V" } : Jvm.MethodName) prog_18_method_1_code (2 : Nat) (Option.none : Option Jvm.ClassFile.FieldType)) ∈ lw_all := lw_g (lw_at lw_m2 232 rfl) rfl
theorem q548 : (Jvm.Cond.methodLink "StepDebts$Turn" (1 : Nat) ({ cls := "java/lang/Object", name := "<init>", desc := "()V" } : Jvm.MethodName)) ∈ lw_all := lw_g (lw_at lw_m2 233 rfl) rfl
theorem q549 : (Jvm.Cond.fieldLink "StepDebts$Turn" (7 : Nat) "StepDebts$Turn" "length" "I") ∈ lw_all := lw_g (lw_at lw_m2 234 rfl) rfl
theorem q552 : (Jvm.Cond.fieldLink "StepDebts$Turn" (16 : Nat) "StepDebts$Turn" "wear" "I") ∈ lw_all := lw_g (lw_at lw_m2 237 rfl) rfl
theorem q555 : (Jvm.Cond.fieldLink "StepDebts$Turn" (19 : Nat) "StepDebts$Turn" "mended" "I") ∈ lw_all := lw_g (lw_at lw_m3 0 rfl) rfl
theorem q558 : (Jvm.Cond.laysFinal "StepDebts$Turn" "StepDebts$Turn" "length" "I") ∈ lw_all := lw_g (lw_at lw_m3 3 rfl) rfl
theorem q559 : (Jvm.Cond.soleField "StepDebts$Turn" "length") ∈ lw_all := lw_g (lw_at lw_m3 4 rfl) rfl
theorem q560 : (Jvm.Cond.lays "StepDebts$Turn" "StepDebts$Turn" "wear" "I") ∈ lw_all := lw_g (lw_at lw_m3 5 rfl) rfl
theorem q561 : (Jvm.Cond.soleField "StepDebts$Turn" "wear") ∈ lw_all := lw_g (lw_at lw_m3 6 rfl) rfl
theorem q562 : (Jvm.Cond.lays "StepDebts$Turn" "StepDebts$Turn" "mended" "I") ∈ lw_all := lw_g (lw_at lw_m3 7 rfl) rfl
theorem q563 : (Jvm.Cond.soleField "StepDebts$Turn" "mended") ∈ lw_all := lw_g (lw_at lw_m3 8 rfl) rfl
theorem q564 : (Jvm.Cond.superclass "StepDebts$Turn" "java/lang/Object") ∈ lw_all := lw_g (lw_at lw_m3 9 rfl) rfl
theorem q2182 : (Jvm.Cond.castable "StepDebts$Turn" "java/lang/Object") ∈ lw_tbl := lw_at lw_m9 187 rfl
theorem in_X8 : ∀ w ∈ wsX80, w ∈ lw_all := lw_in wsX80 [558, 560, 562] (by decide +kernel) (by decide +kernel)
/-! StepDebts$Entry -/
set_option maxRecDepth 100000
def RX9 : String := "StepDebts$Entry"
def TX9 : u_T := fun k => match k with
  | 0 => ("StepDebts$Entry", "serial", "I", true)
  | 1 => ("StepDebts$Entry", "day", "I", true)
  | 2 => ("StepDebts$Entry", "walker", "I", true)
  | 3 => ("StepDebts$Entry", "house", "I", true)
  | 4 => ("StepDebts$Entry", "turns", "I", true)
  | 5 => ("StepDebts$Entry", "taken", "I", true)
  | 6 => ("StepDebts$Entry", "night", "Z", true)
  | _ => ("StepDebts$Entry", "burnt", "Z", false)
def tyX9 : Nat → FieldType := fun k => match k with
  | 0 => .int
  | 1 => .int
  | 2 => .int
  | 3 => .int
  | 4 => .int
  | 5 => .int
  | 6 => .boolean
  | _ => .boolean
abbrev wsX90 : List Cond := u_ws RX9 TX9 8
theorem nmX9 : ∀ a, a < 8 → ∀ b, b < 8 → a ≠ b → (TX9 a).2.1 ≠ (TX9 b).2.1 := by decide +kernel
theorem tyX9_ok : ∀ k, k < 8 → parseFieldDescriptor (TX9 k).2.2.1 = some (tyX9 k) := by decide +kernel
abbrev cX9_copy : ByteArray := prog_3_method_2_code
def yX9_copy : MethodName := ⟨RX9, "copy", "()LStepDebts$Entry;"⟩
def dkwX9_copy_1 : List UInt8 := [42, 180, 0, 25, 42, 180, 0, 29, 183, 0, 32, 76, 43, 42, 180, 0, 35, 181, 0, 35, 43, 176]
abbrev dktX9_copy_1 : List UInt8 := dkwX9_copy_1 ++ []
def dkwX9_copy_0 : List UInt8 := [187, 0, 8, 89, 42, 180, 0, 7, 42, 180, 0, 13, 42, 180, 0, 16, 42, 180, 0, 19, 42, 180, 0, 22]
abbrev dktX9_copy_0 : List UInt8 := dkwX9_copy_0 ++ dktX9_copy_1
theorem dksX9_copy_0 : cX9_copy.data.toList.drop 0 = dktX9_copy_0 := by decide +kernel
theorem dksX9_copy_1 : cX9_copy.data.toList.drop 24 = dktX9_copy_1 := dk_seg dksX9_copy_0 24 rfl rfl
theorem dX9_copy_0 : decode cX9_copy 0 = .ok (.new 8, 3) := dk_187 0 8 (dk_at dksX9_copy_0 0 rfl rfl)
theorem dX9_copy_3 : decode cX9_copy 3 = .ok (.dup, 1) := dk_89 (dk_at dksX9_copy_0 3 rfl rfl)
theorem dX9_copy_4 : decode cX9_copy 4 = .ok (.aload_n 0, 1) := dk_42 (dk_at dksX9_copy_0 4 rfl rfl)
theorem dX9_copy_5 : decode cX9_copy 5 = .ok (.getfield 7, 3) := dk_180 0 7 (dk_at dksX9_copy_0 5 rfl rfl)
theorem dX9_copy_8 : decode cX9_copy 8 = .ok (.aload_n 0, 1) := dk_42 (dk_at dksX9_copy_0 8 rfl rfl)
theorem dX9_copy_9 : decode cX9_copy 9 = .ok (.getfield 13, 3) := dk_180 0 13 (dk_at dksX9_copy_0 9 rfl rfl)
theorem dX9_copy_12 : decode cX9_copy 12 = .ok (.aload_n 0, 1) := dk_42 (dk_at dksX9_copy_0 12 rfl rfl)
theorem dX9_copy_13 : decode cX9_copy 13 = .ok (.getfield 16, 3) := dk_180 0 16 (dk_at dksX9_copy_0 13 rfl rfl)
theorem dX9_copy_16 : decode cX9_copy 16 = .ok (.aload_n 0, 1) := dk_42 (dk_at dksX9_copy_0 16 rfl rfl)
theorem dX9_copy_17 : decode cX9_copy 17 = .ok (.getfield 19, 3) := dk_180 0 19 (dk_at dksX9_copy_0 17 rfl rfl)
theorem dX9_copy_20 : decode cX9_copy 20 = .ok (.aload_n 0, 1) := dk_42 (dk_at dksX9_copy_0 20 rfl rfl)
theorem dX9_copy_21 : decode cX9_copy 21 = .ok (.getfield 22, 3) := dk_180 0 22 (dk_at dksX9_copy_0 21 rfl rfl)
theorem dX9_copy_24 : decode cX9_copy 24 = .ok (.aload_n 0, 1) := dk_42 (dk_at dksX9_copy_1 0 rfl rfl)
theorem dX9_copy_25 : decode cX9_copy 25 = .ok (.getfield 25, 3) := dk_180 0 25 (dk_at dksX9_copy_1 1 rfl rfl)
theorem dX9_copy_28 : decode cX9_copy 28 = .ok (.aload_n 0, 1) := dk_42 (dk_at dksX9_copy_1 4 rfl rfl)
theorem dX9_copy_29 : decode cX9_copy 29 = .ok (.getfield 29, 3) := dk_180 0 29 (dk_at dksX9_copy_1 5 rfl rfl)
theorem dX9_copy_32 : decode cX9_copy 32 = .ok (.invokespecial 32, 3) := dk_183 0 32 (dk_at dksX9_copy_1 8 rfl rfl)
theorem dX9_copy_35 : decode cX9_copy 35 = .ok (.astore_n 1, 1) := dk_76 (dk_at dksX9_copy_1 11 rfl rfl)
theorem dX9_copy_36 : decode cX9_copy 36 = .ok (.aload_n 1, 1) := dk_43 (dk_at dksX9_copy_1 12 rfl rfl)
theorem dX9_copy_37 : decode cX9_copy 37 = .ok (.aload_n 0, 1) := dk_42 (dk_at dksX9_copy_1 13 rfl rfl)
theorem dX9_copy_38 : decode cX9_copy 38 = .ok (.getfield 35, 3) := dk_180 0 35 (dk_at dksX9_copy_1 14 rfl rfl)
theorem dX9_copy_41 : decode cX9_copy 41 = .ok (.putfield 35, 3) := dk_181 0 35 (dk_at dksX9_copy_1 17 rfl rfl)
theorem dX9_copy_44 : decode cX9_copy 44 = .ok (.aload_n 1, 1) := dk_43 (dk_at dksX9_copy_1 20 rfl rfl)
theorem dX9_copy_45 : decode cX9_copy 45 = .ok (.areturn, 1) := dk_176 (dk_at dksX9_copy_1 21 rfl rfl)
abbrev cX9_init : ByteArray := prog_3_method_1_code
def yX9_init : MethodName := ⟨RX9, "<init>", "(IIIIIZI)V"⟩
def dkwX9_init_1 : List UInt8 := [181, 0, 19, 42, 21, 5, 181, 0, 22, 42, 21, 6, 181, 0, 25, 42, 21, 7, 181, 0, 29, 177]
abbrev dktX9_init_1 : List UInt8 := dkwX9_init_1 ++ []
def dkwX9_init_0 : List UInt8 := [42, 183, 0, 1, 42, 27, 181, 0, 7, 42, 28, 181, 0, 13, 42, 29, 181, 0, 16, 42, 21, 4]
abbrev dktX9_init_0 : List UInt8 := dkwX9_init_0 ++ dktX9_init_1
theorem dksX9_init_0 : cX9_init.data.toList.drop 0 = dktX9_init_0 := by decide +kernel
theorem dksX9_init_1 : cX9_init.data.toList.drop 22 = dktX9_init_1 := dk_seg dksX9_init_0 22 rfl rfl
theorem dX9_init_0 : decode cX9_init 0 = .ok (.aload_n 0, 1) := dk_42 (dk_at dksX9_init_0 0 rfl rfl)
theorem dX9_init_1 : decode cX9_init 1 = .ok (.invokespecial 1, 3) := dk_183 0 1 (dk_at dksX9_init_0 1 rfl rfl)
theorem dX9_init_4 : decode cX9_init 4 = .ok (.aload_n 0, 1) := dk_42 (dk_at dksX9_init_0 4 rfl rfl)
theorem dX9_init_5 : decode cX9_init 5 = .ok (.iload_n 1, 1) := dk_27 (dk_at dksX9_init_0 5 rfl rfl)
theorem dX9_init_6 : decode cX9_init 6 = .ok (.putfield 7, 3) := dk_181 0 7 (dk_at dksX9_init_0 6 rfl rfl)
theorem dX9_init_9 : decode cX9_init 9 = .ok (.aload_n 0, 1) := dk_42 (dk_at dksX9_init_0 9 rfl rfl)
theorem dX9_init_10 : decode cX9_init 10 = .ok (.iload_n 2, 1) := dk_28 (dk_at dksX9_init_0 10 rfl rfl)
theorem dX9_init_11 : decode cX9_init 11 = .ok (.putfield 13, 3) := dk_181 0 13 (dk_at dksX9_init_0 11 rfl rfl)
theorem dX9_init_14 : decode cX9_init 14 = .ok (.aload_n 0, 1) := dk_42 (dk_at dksX9_init_0 14 rfl rfl)
theorem dX9_init_15 : decode cX9_init 15 = .ok (.iload_n 3, 1) := dk_29 (dk_at dksX9_init_0 15 rfl rfl)
theorem dX9_init_16 : decode cX9_init 16 = .ok (.putfield 16, 3) := dk_181 0 16 (dk_at dksX9_init_0 16 rfl rfl)
theorem dX9_init_19 : decode cX9_init 19 = .ok (.aload_n 0, 1) := dk_42 (dk_at dksX9_init_0 19 rfl rfl)
theorem dX9_init_20 : decode cX9_init 20 = .ok (.iload 4, 2) := dk_21 4 (dk_at dksX9_init_0 20 rfl rfl)
theorem dX9_init_22 : decode cX9_init 22 = .ok (.putfield 19, 3) := dk_181 0 19 (dk_at dksX9_init_1 0 rfl rfl)
theorem dX9_init_25 : decode cX9_init 25 = .ok (.aload_n 0, 1) := dk_42 (dk_at dksX9_init_1 3 rfl rfl)
theorem dX9_init_26 : decode cX9_init 26 = .ok (.iload 5, 2) := dk_21 5 (dk_at dksX9_init_1 4 rfl rfl)
theorem dX9_init_28 : decode cX9_init 28 = .ok (.putfield 22, 3) := dk_181 0 22 (dk_at dksX9_init_1 6 rfl rfl)
theorem dX9_init_31 : decode cX9_init 31 = .ok (.aload_n 0, 1) := dk_42 (dk_at dksX9_init_1 9 rfl rfl)
theorem dX9_init_32 : decode cX9_init 32 = .ok (.iload 6, 2) := dk_21 6 (dk_at dksX9_init_1 10 rfl rfl)
theorem dX9_init_34 : decode cX9_init 34 = .ok (.putfield 25, 3) := dk_181 0 25 (dk_at dksX9_init_1 12 rfl rfl)
theorem dX9_init_37 : decode cX9_init 37 = .ok (.aload_n 0, 1) := dk_42 (dk_at dksX9_init_1 15 rfl rfl)
theorem dX9_init_38 : decode cX9_init 38 = .ok (.iload 7, 2) := dk_21 7 (dk_at dksX9_init_1 16 rfl rfl)
theorem dX9_init_40 : decode cX9_init 40 = .ok (.putfield 29, 3) := dk_181 0 29 (dk_at dksX9_init_1 18 rfl rfl)
theorem dX9_init_43 : decode cX9_init 43 = .ok (.return_, 1) := dk_177 (dk_at dksX9_init_1 21 rfl rfl)
theorem q93 : (Jvm.Cond.initialized "StepDebts$Entry") ∈ lw_all := lw_g (lw_at lw_m1 18 rfl) rfl
theorem q496 : (Jvm.Cond.selects "StepDebts$Entry" ({ cls := "java/lang/Object", name := "getClass", desc := "()Ljava/lang/Class;" } : Jvm.MethodName) ({ cls := "java/lang/Object", name := "getClass", desc := "()Ljava/lang/Class;" } : Jvm.MethodName)) ∈ lw_all := lw_g (lw_at lw_m2 181 rfl) rfl
theorem q566 : (Jvm.Cond.instanceMethod ({ cls := "StepDebts$Entry", name := "copy", desc := "()LStepDebts$Entry;" } : Jvm.MethodName)) ∈ lw_all := lw_g (lw_at lw_m3 11 rfl) rfl
theorem q567 : (Jvm.Cond.selects "StepDebts$Entry" ({ cls := "StepDebts$Entry", name := "copy", desc := "()LStepDebts$Entry;" } : Jvm.MethodName) ({ cls := "StepDebts$Entry", name := "copy", desc := "()LStepDebts$Entry;" } : Jvm.MethodName)) ∈ lw_all := lw_g (lw_at lw_m3 12 rfl) rfl
theorem q568 : (Jvm.Cond.code ({ cls := "StepDebts$Entry", name := "copy", desc := "()LStepDebts$Entry;" } : Jvm.MethodName) prog_3_method_2_code (2 : Nat) (Option.some (Jvm.ClassFile.FieldType.object "StepDebts$Entry"))) ∈ lw_all := lw_g (lw_at lw_m3 13 rfl) rfl
theorem q569 : (Jvm.Cond.classLink "StepDebts$Entry" (8 : Nat) "StepDebts$Entry") ∈ lw_all := lw_g (lw_at lw_m3 14 rfl) rfl
theorem q570 : (Jvm.Cond.instantiable "StepDebts$Entry" (8 : Nat)) ∈ lw_all := lw_g (lw_at lw_m3 15 rfl) rfl
theorem q571 : (Jvm.Cond.methodLink "StepDebts$Entry" (32 : Nat) ({ cls := "StepDebts$Entry", name := "<init>", desc := "(IIIIIZI)V" } : Jvm.MethodName)) ∈ lw_all := lw_g (lw_at lw_m3 16 rfl) rfl
theorem q572 : (Jvm.Cond.instanceMethod ({ cls := "StepDebts$Entry", name := "<init>", desc := "(IIIIIZI)V" } : Jvm.MethodName)) ∈ lw_all := lw_g (lw_at lw_m3 17 rfl) rfl
theorem q573 : (Jvm.Cond.code ({ cls := "StepDebts$Entry", name := "<init>", desc := "(IIIIIZI)V" } : Jvm.MethodName) prog_3_method_1_code (8 : Nat) (Option.none : Option Jvm.ClassFile.FieldType)) ∈ lw_all := lw_g (lw_at lw_m3 18 rfl) rfl
theorem q574 : (Jvm.Cond.methodLink "StepDebts$Entry" (1 : Nat) ({ cls := "java/lang/Object", name := "<init>", desc := "()V" } : Jvm.MethodName)) ∈ lw_all := lw_g (lw_at lw_m3 19 rfl) rfl
theorem q575 : (Jvm.Cond.fieldLink "StepDebts$Entry" (7 : Nat) "StepDebts$Entry" "serial" "I") ∈ lw_all := lw_g (lw_at lw_m3 20 rfl) rfl
theorem q577 : (Jvm.Cond.fieldLink "StepDebts$Entry" (13 : Nat) "StepDebts$Entry" "day" "I") ∈ lw_all := lw_g (lw_at lw_m3 22 rfl) rfl
theorem q580 : (Jvm.Cond.fieldLink "StepDebts$Entry" (16 : Nat) "StepDebts$Entry" "walker" "I") ∈ lw_all := lw_g (lw_at lw_m3 25 rfl) rfl
theorem q583 : (Jvm.Cond.fieldLink "StepDebts$Entry" (19 : Nat) "StepDebts$Entry" "house" "I") ∈ lw_all := lw_g (lw_at lw_m3 28 rfl) rfl
theorem q586 : (Jvm.Cond.fieldLink "StepDebts$Entry" (22 : Nat) "StepDebts$Entry" "turns" "I") ∈ lw_all := lw_g (lw_at lw_m3 31 rfl) rfl
theorem q589 : (Jvm.Cond.fieldLink "StepDebts$Entry" (29 : Nat) "StepDebts$Entry" "taken" "I") ∈ lw_all := lw_g (lw_at lw_m3 34 rfl) rfl
theorem q591 : (Jvm.Cond.fieldLink "StepDebts$Entry" (25 : Nat) "StepDebts$Entry" "night" "Z") ∈ lw_all := lw_g (lw_at lw_m3 36 rfl) rfl
theorem q594 : (Jvm.Cond.fieldLink "StepDebts$Entry" (35 : Nat) "StepDebts$Entry" "burnt" "Z") ∈ lw_all := lw_g (lw_at lw_m3 39 rfl) rfl
theorem q597 : (Jvm.Cond.laysFinal "StepDebts$Entry" "StepDebts$Entry" "serial" "I") ∈ lw_all := lw_g (lw_at lw_m3 42 rfl) rfl
theorem q598 : (Jvm.Cond.soleField "StepDebts$Entry" "serial") ∈ lw_all := lw_g (lw_at lw_m3 43 rfl) rfl
theorem q599 : (Jvm.Cond.laysFinal "StepDebts$Entry" "StepDebts$Entry" "day" "I") ∈ lw_all := lw_g (lw_at lw_m3 44 rfl) rfl
theorem q600 : (Jvm.Cond.soleField "StepDebts$Entry" "day") ∈ lw_all := lw_g (lw_at lw_m3 45 rfl) rfl
theorem q601 : (Jvm.Cond.laysFinal "StepDebts$Entry" "StepDebts$Entry" "walker" "I") ∈ lw_all := lw_g (lw_at lw_m3 46 rfl) rfl
theorem q602 : (Jvm.Cond.soleField "StepDebts$Entry" "walker") ∈ lw_all := lw_g (lw_at lw_m3 47 rfl) rfl
theorem q603 : (Jvm.Cond.laysFinal "StepDebts$Entry" "StepDebts$Entry" "house" "I") ∈ lw_all := lw_g (lw_at lw_m3 48 rfl) rfl
theorem q604 : (Jvm.Cond.soleField "StepDebts$Entry" "house") ∈ lw_all := lw_g (lw_at lw_m3 49 rfl) rfl
theorem q605 : (Jvm.Cond.laysFinal "StepDebts$Entry" "StepDebts$Entry" "turns" "I") ∈ lw_all := lw_g (lw_at lw_m3 50 rfl) rfl
theorem q606 : (Jvm.Cond.soleField "StepDebts$Entry" "turns") ∈ lw_all := lw_g (lw_at lw_m3 51 rfl) rfl
theorem q607 : (Jvm.Cond.laysFinal "StepDebts$Entry" "StepDebts$Entry" "taken" "I") ∈ lw_all := lw_g (lw_at lw_m3 52 rfl) rfl
theorem q608 : (Jvm.Cond.soleField "StepDebts$Entry" "taken") ∈ lw_all := lw_g (lw_at lw_m3 53 rfl) rfl
theorem q609 : (Jvm.Cond.laysFinal "StepDebts$Entry" "StepDebts$Entry" "night" "Z") ∈ lw_all := lw_g (lw_at lw_m3 54 rfl) rfl
theorem q610 : (Jvm.Cond.soleField "StepDebts$Entry" "night") ∈ lw_all := lw_g (lw_at lw_m3 55 rfl) rfl
theorem q611 : (Jvm.Cond.lays "StepDebts$Entry" "StepDebts$Entry" "burnt" "Z") ∈ lw_all := lw_g (lw_at lw_m3 56 rfl) rfl
theorem q612 : (Jvm.Cond.soleField "StepDebts$Entry" "burnt") ∈ lw_all := lw_g (lw_at lw_m3 57 rfl) rfl
theorem q613 : (Jvm.Cond.superclass "StepDebts$Entry" "java/lang/Object") ∈ lw_all := lw_g (lw_at lw_m3 58 rfl) rfl
theorem q2183 : (Jvm.Cond.castable "StepDebts$Entry" "java/lang/Object") ∈ lw_tbl := lw_at lw_m9 188 rfl
theorem in_X9 : ∀ w ∈ wsX90, w ∈ lw_all := lw_in wsX90 [597, 599, 601, 603, 605, 607, 609, 611] (by decide +kernel) (by decide +kernel)
/-! StepDebts$Wrong -/
set_option maxRecDepth 100000
def RX10 : String := "StepDebts$Wrong"
def TX10 : u_T := fun k => match k with
  | 0 => ("java/lang/Throwable", "cause", "Ljava/lang/Throwable;", false)
  | 1 => ("java/lang/Throwable", "stackTrace", "[Ljava/lang/StackTraceElement;", false)
  | 2 => ("java/lang/Throwable", "suppressedExceptions", "Ljava/util/List;", false)
  | 3 => ("java/lang/Throwable", "detailMessage", "Ljava/lang/String;", false)
  | 4 => ("java/lang/Throwable", "backtrace", "Ljava/lang/Object;", false)
  | _ => ("java/lang/Throwable", "depth", "I", false)
def tyX10 : Nat → FieldType := fun k => match k with
  | 0 => .object "java/lang/Throwable"
  | 1 => .array (.object "java/lang/StackTraceElement")
  | 2 => .object "java/util/List"
  | 3 => .object "java/lang/String"
  | 4 => .object "java/lang/Object"
  | _ => .int
abbrev wsX100 : List Cond := u_ws RX10 TX10 6
theorem nmX10 : ∀ a, a < 6 → ∀ b, b < 6 → a ≠ b → (TX10 a).2.1 ≠ (TX10 b).2.1 := by decide +kernel
theorem tyX10_ok : ∀ k, k < 6 → parseFieldDescriptor (TX10 k).2.2.1 = some (tyX10 k) := by decide +kernel
abbrev cX10_init : ByteArray := prog_21_method_1_code
def yX10_init : MethodName := ⟨RX10, "<init>", "()V"⟩
def dkwX10_init_0 : List UInt8 := [42, 1, 1, 3, 3, 183, 0, 1, 177]
abbrev dktX10_init_0 : List UInt8 := dkwX10_init_0 ++ []
theorem dksX10_init_0 : cX10_init.data.toList.drop 0 = dktX10_init_0 := by decide +kernel
theorem dX10_init_0 : decode cX10_init 0 = .ok (.aload_n 0, 1) := dk_42 (dk_at dksX10_init_0 0 rfl rfl)
theorem dX10_init_1 : decode cX10_init 1 = .ok (.aconst_null, 1) := dk_1 (dk_at dksX10_init_0 1 rfl rfl)
theorem dX10_init_2 : decode cX10_init 2 = .ok (.aconst_null, 1) := dk_1 (dk_at dksX10_init_0 2 rfl rfl)
theorem dX10_init_3 : decode cX10_init 3 = .ok (.iconst 0, 1) := dk_3 (dk_at dksX10_init_0 3 rfl rfl)
theorem dX10_init_4 : decode cX10_init 4 = .ok (.iconst 0, 1) := dk_3 (dk_at dksX10_init_0 4 rfl rfl)
theorem dX10_init_5 : decode cX10_init 5 = .ok (.invokespecial 1, 3) := dk_183 0 1 (dk_at dksX10_init_0 5 rfl rfl)
theorem dX10_init_8 : decode cX10_init 8 = .ok (.return_, 1) := dk_177 (dk_at dksX10_init_0 8 rfl rfl)
theorem q105 : (Jvm.Cond.initialized "StepDebts$Wrong") ∈ lw_all := lw_g (lw_at lw_m1 30 rfl) rfl
theorem q514 : (Jvm.Cond.selects "StepDebts$Wrong" ({ cls := "java/lang/Object", name := "getClass", desc := "()Ljava/lang/Class;" } : Jvm.MethodName) ({ cls := "java/lang/Object", name := "getClass", desc := "()Ljava/lang/Class;" } : Jvm.MethodName)) ∈ lw_all := lw_g (lw_at lw_m2 199 rfl) rfl
theorem q863 : (Jvm.Cond.selects "StepDebts$Wrong" ({ cls := "java/lang/Throwable", name := "fillInStackTrace", desc := "()Ljava/lang/Throwable;" } : Jvm.MethodName) ({ cls := "java/lang/Throwable", name := "fillInStackTrace", desc := "()Ljava/lang/Throwable;" } : Jvm.MethodName)) ∈ lw_all := lw_g (lw_at lw_m4 68 rfl) rfl
theorem q1007 : (Jvm.Cond.instantiable "StepDebts$Wrong" (6 : Nat)) ∈ lw_all := lw_g (lw_at lw_m4 212 rfl) rfl
theorem q1008 : (Jvm.Cond.castable "StepDebts$Wrong" "StepDebts$Wrong") ∈ lw_tbl := lw_at lw_m4 213 rfl
theorem q1009 : (Jvm.Cond.selects "StepDebts$Wrong" ({ cls := "java/lang/Throwable", name := "fillInStackTrace", desc := "(I)Ljava/lang/Throwable;" } : Jvm.MethodName) ({ cls := "java/lang/Throwable", name := "fillInStackTrace", desc := "(I)Ljava/lang/Throwable;" } : Jvm.MethodName)) ∈ lw_all := lw_g (lw_at lw_m4 214 rfl) rfl
theorem q1010 : (Jvm.Cond.lays "StepDebts$Wrong" "java/lang/Throwable" "cause" "Ljava/lang/Throwable;") ∈ lw_all := lw_g (lw_at lw_m4 215 rfl) rfl
theorem q1011 : (Jvm.Cond.lays "StepDebts$Wrong" "java/lang/Throwable" "stackTrace" "[Ljava/lang/StackTraceElement;") ∈ lw_all := lw_g (lw_at lw_m4 216 rfl) rfl
theorem q1012 : (Jvm.Cond.lays "StepDebts$Wrong" "java/lang/Throwable" "suppressedExceptions" "Ljava/util/List;") ∈ lw_all := lw_g (lw_at lw_m4 217 rfl) rfl
theorem q1013 : (Jvm.Cond.lays "StepDebts$Wrong" "java/lang/Throwable" "detailMessage" "Ljava/lang/String;") ∈ lw_all := lw_g (lw_at lw_m4 218 rfl) rfl
theorem q1014 : (Jvm.Cond.lays "StepDebts$Wrong" "java/lang/Throwable" "backtrace" "Ljava/lang/Object;") ∈ lw_all := lw_g (lw_at lw_m4 219 rfl) rfl
theorem q1016 : (Jvm.Cond.instanceMethod ({ cls := "StepDebts$Wrong", name := "<init>", desc := "()V" } : Jvm.MethodName)) ∈ lw_all := lw_g (lw_at lw_m4 221 rfl) rfl
theorem q1017 : (Jvm.Cond.code ({ cls := "StepDebts$Wrong", name := "<init>", desc := "()V" } : Jvm.MethodName) prog_21_method_1_code (1 : Nat) (Option.none : Option Jvm.ClassFile.FieldType)) ∈ lw_all := lw_g (lw_at lw_m4 222 rfl) rfl
theorem q1018 : (Jvm.Cond.methodLink "StepDebts$Wrong" (1 : Nat) ({ cls := "java/lang/Exception", name := "<init>", desc := "(Ljava/lang/String;Ljava/lang/Throwable;ZZ)V" } : Jvm.MethodName)) ∈ lw_all := lw_g (lw_at lw_m4 223 rfl) rfl
theorem q1024 : (Jvm.Cond.lays "StepDebts$Wrong" "java/lang/Throwable" "depth" "I") ∈ lw_all := lw_g (lw_at lw_m4 229 rfl) rfl
theorem q1025 : (Jvm.Cond.superclass "StepDebts$Wrong" "java/lang/Exception") ∈ lw_all := lw_g (lw_at lw_m4 230 rfl) rfl
theorem q2187 : (Jvm.Cond.castable "StepDebts$Wrong" "java/lang/Object") ∈ lw_tbl := lw_at lw_m9 192 rfl
theorem in_X10 : ∀ w ∈ wsX100, w ∈ lw_all := lw_in wsX100 [1010, 1011, 1012, 1013, 1014, 1024] (by decide +kernel) (by decide +kernel)
/-! StepDebts$Offer -/
set_option maxRecDepth 100000
def RX11 : String := "StepDebts$Offer"
def TX11 : u_T := fun k => match k with
  | 0 => ("StepDebts$Offer", "paces", "I", true)
  | _ => ("StepDebts$Offer", "price", "I", true)
def tyX11 : Nat → FieldType := fun k => match k with
  | 0 => .int
  | _ => .int
abbrev wsX110 : List Cond := u_ws RX11 TX11 2
theorem nmX11 : ∀ a, a < 2 → ∀ b, b < 2 → a ≠ b → (TX11 a).2.1 ≠ (TX11 b).2.1 := by decide +kernel
theorem tyX11_ok : ∀ k, k < 2 → parseFieldDescriptor (TX11 k).2.2.1 = some (tyX11 k) := by decide +kernel
abbrev cX11_init : ByteArray := prog_10_method_1_code
def yX11_init : MethodName := ⟨RX11, "<init>", "(II)V"⟩
def dkwX11_init_0 : List UInt8 := [42, 183, 0, 1, 42, 27, 181, 0, 7, 42, 28, 181, 0, 13, 177]
abbrev dktX11_init_0 : List UInt8 := dkwX11_init_0 ++ []
theorem dksX11_init_0 : cX11_init.data.toList.drop 0 = dktX11_init_0 := by decide +kernel
theorem dX11_init_0 : decode cX11_init 0 = .ok (.aload_n 0, 1) := dk_42 (dk_at dksX11_init_0 0 rfl rfl)
theorem dX11_init_1 : decode cX11_init 1 = .ok (.invokespecial 1, 3) := dk_183 0 1 (dk_at dksX11_init_0 1 rfl rfl)
theorem dX11_init_4 : decode cX11_init 4 = .ok (.aload_n 0, 1) := dk_42 (dk_at dksX11_init_0 4 rfl rfl)
theorem dX11_init_5 : decode cX11_init 5 = .ok (.iload_n 1, 1) := dk_27 (dk_at dksX11_init_0 5 rfl rfl)
theorem dX11_init_6 : decode cX11_init 6 = .ok (.putfield 7, 3) := dk_181 0 7 (dk_at dksX11_init_0 6 rfl rfl)
theorem dX11_init_9 : decode cX11_init 9 = .ok (.aload_n 0, 1) := dk_42 (dk_at dksX11_init_0 9 rfl rfl)
theorem dX11_init_10 : decode cX11_init 10 = .ok (.iload_n 2, 1) := dk_28 (dk_at dksX11_init_0 10 rfl rfl)
theorem dX11_init_11 : decode cX11_init 11 = .ok (.putfield 13, 3) := dk_181 0 13 (dk_at dksX11_init_0 11 rfl rfl)
theorem dX11_init_14 : decode cX11_init 14 = .ok (.return_, 1) := dk_177 (dk_at dksX11_init_0 14 rfl rfl)
theorem q106 : (Jvm.Cond.initialized "StepDebts$Offer") ∈ lw_all := lw_g (lw_at lw_m1 31 rfl) rfl
theorem q503 : (Jvm.Cond.selects "StepDebts$Offer" ({ cls := "java/lang/Object", name := "getClass", desc := "()Ljava/lang/Class;" } : Jvm.MethodName) ({ cls := "java/lang/Object", name := "getClass", desc := "()Ljava/lang/Class;" } : Jvm.MethodName)) ∈ lw_all := lw_g (lw_at lw_m2 188 rfl) rfl
theorem q1141 : (Jvm.Cond.instantiable "StepDebts$Offer" (2 : Nat)) ∈ lw_all := lw_g (lw_at lw_m5 106 rfl) rfl
theorem q1143 : (Jvm.Cond.instanceMethod ({ cls := "StepDebts$Offer", name := "<init>", desc := "(II)V" } : Jvm.MethodName)) ∈ lw_all := lw_g (lw_at lw_m5 108 rfl) rfl
theorem q1144 : (Jvm.Cond.code ({ cls := "StepDebts$Offer", name := "<init>", desc := "(II)V" } : Jvm.MethodName) prog_10_method_1_code (3 : Nat) (Option.none : Option Jvm.ClassFile.FieldType)) ∈ lw_all := lw_g (lw_at lw_m5 109 rfl) rfl
theorem q1145 : (Jvm.Cond.methodLink "StepDebts$Offer" (1 : Nat) ({ cls := "java/lang/Object", name := "<init>", desc := "()V" } : Jvm.MethodName)) ∈ lw_all := lw_g (lw_at lw_m5 110 rfl) rfl
theorem q1146 : (Jvm.Cond.fieldLink "StepDebts$Offer" (7 : Nat) "StepDebts$Offer" "paces" "I") ∈ lw_all := lw_g (lw_at lw_m5 111 rfl) rfl
theorem q1148 : (Jvm.Cond.fieldLink "StepDebts$Offer" (13 : Nat) "StepDebts$Offer" "price" "I") ∈ lw_all := lw_g (lw_at lw_m5 113 rfl) rfl
theorem q1150 : (Jvm.Cond.laysFinal "StepDebts$Offer" "StepDebts$Offer" "paces" "I") ∈ lw_all := lw_g (lw_at lw_m5 115 rfl) rfl
theorem q1151 : (Jvm.Cond.soleField "StepDebts$Offer" "paces") ∈ lw_all := lw_g (lw_at lw_m5 116 rfl) rfl
theorem q1152 : (Jvm.Cond.laysFinal "StepDebts$Offer" "StepDebts$Offer" "price" "I") ∈ lw_all := lw_g (lw_at lw_m5 117 rfl) rfl
theorem q1153 : (Jvm.Cond.soleField "StepDebts$Offer" "price") ∈ lw_all := lw_g (lw_at lw_m5 118 rfl) rfl
theorem q1154 : (Jvm.Cond.superclass "StepDebts$Offer" "java/lang/Object") ∈ lw_all := lw_g (lw_at lw_m5 119 rfl) rfl
theorem q2189 : (Jvm.Cond.castable "StepDebts$Offer" "java/lang/Object") ∈ lw_tbl := lw_at lw_m9 194 rfl
theorem in_X11 : ∀ w ∈ wsX110, w ∈ lw_all := lw_in wsX110 [1150, 1152] (by decide +kernel) (by decide +kernel)
/-! StepDebts$Law -/
set_option maxRecDepth 100000
def RX12 : String := "StepDebts$Law"
def TX12 : u_T := fun k => match k with
  | _ => ("StepDebts$Law", "lines", "Ljava/util/ArrayList;", true)
def tyX12 : Nat → FieldType := fun k => match k with
  | _ => .object "java/util/ArrayList"
abbrev wsX120 : List Cond := u_ws RX12 TX12 1
theorem nmX12 : ∀ a, a < 1 → ∀ b, b < 1 → a ≠ b → (TX12 a).2.1 ≠ (TX12 b).2.1 := by decide +kernel
theorem tyX12_ok : ∀ k, k < 1 → parseFieldDescriptor (TX12 k).2.2.1 = some (tyX12 k) := by decide +kernel
abbrev cX12_init : ByteArray := prog_6_method_1_code
def yX12_init : MethodName := ⟨RX12, "<init>", "()V"⟩
def dkwX12_init_0 : List UInt8 := [42, 183, 0, 1, 42, 187, 0, 7, 89, 183, 0, 9, 181, 0, 10, 177]
abbrev dktX12_init_0 : List UInt8 := dkwX12_init_0 ++ []
theorem dksX12_init_0 : cX12_init.data.toList.drop 0 = dktX12_init_0 := by decide +kernel
theorem dX12_init_0 : decode cX12_init 0 = .ok (.aload_n 0, 1) := dk_42 (dk_at dksX12_init_0 0 rfl rfl)
theorem dX12_init_1 : decode cX12_init 1 = .ok (.invokespecial 1, 3) := dk_183 0 1 (dk_at dksX12_init_0 1 rfl rfl)
theorem dX12_init_4 : decode cX12_init 4 = .ok (.aload_n 0, 1) := dk_42 (dk_at dksX12_init_0 4 rfl rfl)
theorem dX12_init_5 : decode cX12_init 5 = .ok (.new 7, 3) := dk_187 0 7 (dk_at dksX12_init_0 5 rfl rfl)
theorem dX12_init_8 : decode cX12_init 8 = .ok (.dup, 1) := dk_89 (dk_at dksX12_init_0 8 rfl rfl)
theorem dX12_init_9 : decode cX12_init 9 = .ok (.invokespecial 9, 3) := dk_183 0 9 (dk_at dksX12_init_0 9 rfl rfl)
theorem dX12_init_12 : decode cX12_init 12 = .ok (.putfield 10, 3) := dk_181 0 10 (dk_at dksX12_init_0 12 rfl rfl)
theorem dX12_init_15 : decode cX12_init 15 = .ok (.return_, 1) := dk_177 (dk_at dksX12_init_0 15 rfl rfl)
abbrev cX12_number : ByteArray := prog_6_method_2_code
def yX12_number : MethodName := ⟨RX12, "number", "(LStepDebts$Scene;)I"⟩
def dkwX12_number_2 : List UInt8 := [180, 0, 36, 172, 132, 2, 1, 167, 255, 205, 3, 172]
abbrev dktX12_number_2 : List UInt8 := dkwX12_number_2 ++ []
def dkwX12_number_1 : List UInt8 := [78, 45, 180, 0, 26, 198, 0, 16, 45, 180, 0, 26, 43, 185, 0, 30, 2, 0, 153, 0, 8, 45]
abbrev dktX12_number_1 : List UInt8 := dkwX12_number_1 ++ dktX12_number_2
def dkwX12_number_0 : List UInt8 := [3, 61, 28, 42, 180, 0, 10, 182, 0, 16, 162, 0, 46, 42, 180, 0, 10, 28, 182, 0, 20, 192, 0, 24]
abbrev dktX12_number_0 : List UInt8 := dkwX12_number_0 ++ dktX12_number_1
theorem dksX12_number_0 : cX12_number.data.toList.drop 0 = dktX12_number_0 := by decide +kernel
theorem dksX12_number_1 : cX12_number.data.toList.drop 24 = dktX12_number_1 := dk_seg dksX12_number_0 24 rfl rfl
theorem dksX12_number_2 : cX12_number.data.toList.drop 46 = dktX12_number_2 := dk_seg dksX12_number_1 22 rfl rfl
theorem dX12_number_0 : decode cX12_number 0 = .ok (.iconst 0, 1) := dk_3 (dk_at dksX12_number_0 0 rfl rfl)
theorem dX12_number_1 : decode cX12_number 1 = .ok (.istore_n 2, 1) := dk_61 (dk_at dksX12_number_0 1 rfl rfl)
theorem dX12_number_2 : decode cX12_number 2 = .ok (.iload_n 2, 1) := dk_28 (dk_at dksX12_number_0 2 rfl rfl)
theorem dX12_number_3 : decode cX12_number 3 = .ok (.aload_n 0, 1) := dk_42 (dk_at dksX12_number_0 3 rfl rfl)
theorem dX12_number_4 : decode cX12_number 4 = .ok (.getfield 10, 3) := dk_180 0 10 (dk_at dksX12_number_0 4 rfl rfl)
theorem dX12_number_7 : decode cX12_number 7 = .ok (.invokevirtual 16, 3) := dk_182 0 16 (dk_at dksX12_number_0 7 rfl rfl)
theorem dX12_number_10 : decode cX12_number 10 = .ok (.if_icmp .ge 46, 3) := dk_162 0 46 (dk_at dksX12_number_0 10 rfl rfl)
theorem dX12_number_13 : decode cX12_number 13 = .ok (.aload_n 0, 1) := dk_42 (dk_at dksX12_number_0 13 rfl rfl)
theorem dX12_number_14 : decode cX12_number 14 = .ok (.getfield 10, 3) := dk_180 0 10 (dk_at dksX12_number_0 14 rfl rfl)
theorem dX12_number_17 : decode cX12_number 17 = .ok (.iload_n 2, 1) := dk_28 (dk_at dksX12_number_0 17 rfl rfl)
theorem dX12_number_18 : decode cX12_number 18 = .ok (.invokevirtual 20, 3) := dk_182 0 20 (dk_at dksX12_number_0 18 rfl rfl)
theorem dX12_number_21 : decode cX12_number 21 = .ok (.checkcast 24, 3) := dk_192 0 24 (dk_at dksX12_number_0 21 rfl rfl)
theorem dX12_number_24 : decode cX12_number 24 = .ok (.astore_n 3, 1) := dk_78 (dk_at dksX12_number_1 0 rfl rfl)
theorem dX12_number_25 : decode cX12_number 25 = .ok (.aload_n 3, 1) := dk_45 (dk_at dksX12_number_1 1 rfl rfl)
theorem dX12_number_26 : decode cX12_number 26 = .ok (.getfield 26, 3) := dk_180 0 26 (dk_at dksX12_number_1 2 rfl rfl)
theorem dX12_number_29 : decode cX12_number 29 = .ok (.ifnull 16, 3) := dk_198 0 16 (dk_at dksX12_number_1 5 rfl rfl)
theorem dX12_number_32 : decode cX12_number 32 = .ok (.aload_n 3, 1) := dk_45 (dk_at dksX12_number_1 8 rfl rfl)
theorem dX12_number_33 : decode cX12_number 33 = .ok (.getfield 26, 3) := dk_180 0 26 (dk_at dksX12_number_1 9 rfl rfl)
theorem dX12_number_36 : decode cX12_number 36 = .ok (.aload_n 1, 1) := dk_43 (dk_at dksX12_number_1 12 rfl rfl)
theorem dX12_number_37 : decode cX12_number 37 = .ok (.invokeinterface 30 2, 5) := by decide +kernel
theorem dX12_number_42 : decode cX12_number 42 = .ok (.ifCond .eq 8, 3) := dk_153 0 8 (dk_at dksX12_number_1 18 rfl rfl)
theorem dX12_number_45 : decode cX12_number 45 = .ok (.aload_n 3, 1) := dk_45 (dk_at dksX12_number_1 21 rfl rfl)
theorem dX12_number_46 : decode cX12_number 46 = .ok (.getfield 36, 3) := dk_180 0 36 (dk_at dksX12_number_2 0 rfl rfl)
theorem dX12_number_49 : decode cX12_number 49 = .ok (.ireturn, 1) := dk_172 (dk_at dksX12_number_2 3 rfl rfl)
theorem dX12_number_50 : decode cX12_number 50 = .ok (.iinc 2 1, 3) := dk_132 2 1 (dk_at dksX12_number_2 4 rfl rfl)
theorem dX12_number_53 : decode cX12_number 53 = .ok (.goto (-51), 3) := dk_167 255 205 (dk_at dksX12_number_2 7 rfl rfl)
theorem dX12_number_56 : decode cX12_number 56 = .ok (.iconst 0, 1) := dk_3 (dk_at dksX12_number_2 10 rfl rfl)
theorem dX12_number_57 : decode cX12_number 57 = .ok (.ireturn, 1) := dk_172 (dk_at dksX12_number_2 11 rfl rfl)
theorem q108 : (Jvm.Cond.initialized "StepDebts$Law") ∈ lw_all := lw_g (lw_at lw_m1 33 rfl) rfl
theorem q499 : (Jvm.Cond.selects "StepDebts$Law" ({ cls := "java/lang/Object", name := "getClass", desc := "()Ljava/lang/Class;" } : Jvm.MethodName) ({ cls := "java/lang/Object", name := "getClass", desc := "()Ljava/lang/Class;" } : Jvm.MethodName)) ∈ lw_all := lw_g (lw_at lw_m2 184 rfl) rfl
theorem q1205 : (Jvm.Cond.instantiable "StepDebts$Law" (1 : Nat)) ∈ lw_all := lw_g (lw_at lw_m5 170 rfl) rfl
theorem q1207 : (Jvm.Cond.instanceMethod ({ cls := "StepDebts$Law", name := "<init>", desc := "()V" } : Jvm.MethodName)) ∈ lw_all := lw_g (lw_at lw_m5 172 rfl) rfl
theorem q1208 : (Jvm.Cond.code ({ cls := "StepDebts$Law", name := "<init>", desc := "()V" } : Jvm.MethodName) prog_6_method_1_code (1 : Nat) (Option.none : Option Jvm.ClassFile.FieldType)) ∈ lw_all := lw_g (lw_at lw_m5 173 rfl) rfl
theorem q1209 : (Jvm.Cond.methodLink "StepDebts$Law" (1 : Nat) ({ cls := "java/lang/Object", name := "<init>", desc := "()V" } : Jvm.MethodName)) ∈ lw_all := lw_g (lw_at lw_m5 174 rfl) rfl
theorem q1210 : (Jvm.Cond.classLink "StepDebts$Law" (7 : Nat) "java/util/ArrayList") ∈ lw_all := lw_g (lw_at lw_m5 175 rfl) rfl
theorem q1211 : (Jvm.Cond.methodLink "StepDebts$Law" (9 : Nat) ({ cls := "java/util/ArrayList", name := "<init>", desc := "()V" } : Jvm.MethodName)) ∈ lw_all := lw_g (lw_at lw_m5 176 rfl) rfl
theorem q1212 : (Jvm.Cond.fieldLink "StepDebts$Law" (10 : Nat) "StepDebts$Law" "lines" "Ljava/util/ArrayList;") ∈ lw_all := lw_g (lw_at lw_m5 177 rfl) rfl
theorem q1214 : (Jvm.Cond.laysFinal "StepDebts$Law" "StepDebts$Law" "lines" "Ljava/util/ArrayList;") ∈ lw_all := lw_g (lw_at lw_m5 179 rfl) rfl
theorem q1215 : (Jvm.Cond.soleField "StepDebts$Law" "lines") ∈ lw_all := lw_g (lw_at lw_m5 180 rfl) rfl
theorem q1216 : (Jvm.Cond.superclass "StepDebts$Law" "java/lang/Object") ∈ lw_all := lw_g (lw_at lw_m5 181 rfl) rfl
theorem q1370 : (Jvm.Cond.fieldLinkNest "StepDebts$Law" (36 : Nat) "StepDebts$Line" "n" "I" "StepDebts") ∈ lw_tbl := lw_at lw_m6 95 rfl
theorem q1372 : (Jvm.Cond.fieldLinkNest "StepDebts$Law" (26 : Nat) "StepDebts$Line" "when" "LStepDebts$Cond;" "StepDebts") ∈ lw_tbl := lw_at lw_m6 97 rfl
theorem q1498 : (Jvm.Cond.instanceMethod ({ cls := "StepDebts$Law", name := "number", desc := "(LStepDebts$Scene;)I" } : Jvm.MethodName)) ∈ lw_all := lw_g (lw_at lw_m6 223 rfl) rfl
theorem q1499 : (Jvm.Cond.selects "StepDebts$Law" ({ cls := "StepDebts$Law", name := "number", desc := "(LStepDebts$Scene;)I" } : Jvm.MethodName) ({ cls := "StepDebts$Law", name := "number", desc := "(LStepDebts$Scene;)I" } : Jvm.MethodName)) ∈ lw_all := lw_g (lw_at lw_m6 224 rfl) rfl
theorem q1500 : (Jvm.Cond.code ({ cls := "StepDebts$Law", name := "number", desc := "(LStepDebts$Scene;)I" } : Jvm.MethodName) prog_6_method_2_code (4 : Nat) (Option.some Jvm.ClassFile.FieldType.int)) ∈ lw_all := lw_g (lw_at lw_m6 225 rfl) rfl
theorem q1501 : (Jvm.Cond.methodLink "StepDebts$Law" (16 : Nat) ({ cls := "java/util/ArrayList", name := "size", desc := "()I" } : Jvm.MethodName)) ∈ lw_all := lw_g (lw_at lw_m6 226 rfl) rfl
theorem q1502 : (Jvm.Cond.methodLink "StepDebts$Law" (20 : Nat) ({ cls := "java/util/ArrayList", name := "get", desc := "(I)Ljava/lang/Object;" } : Jvm.MethodName)) ∈ lw_all := lw_g (lw_at lw_m6 227 rfl) rfl
theorem q1503 : (Jvm.Cond.classLink "StepDebts$Law" (24 : Nat) "StepDebts$Line") ∈ lw_all := lw_g (lw_at lw_m6 228 rfl) rfl
theorem q1504 : (Jvm.Cond.interfaceEntry "StepDebts$Law" (30 : Nat)) ∈ lw_tbl := lw_at lw_m6 229 rfl
theorem q1505 : (Jvm.Cond.methodLink "StepDebts$Law" (30 : Nat) ({ cls := "StepDebts$Cond", name := "holds", desc := "(LStepDebts$Scene;)Z" } : Jvm.MethodName)) ∈ lw_all := lw_g (lw_at lw_m6 230 rfl) rfl
theorem q2191 : (Jvm.Cond.castable "StepDebts$Law" "java/lang/Object") ∈ lw_tbl := lw_at lw_m9 196 rfl
theorem in_X12 : ∀ w ∈ wsX120, w ∈ lw_all := lw_in wsX120 [1214] (by decide +kernel) (by decide +kernel)
/-! StepDebts$Line -/
set_option maxRecDepth 100000
def RX13 : String := "StepDebts$Line"
def TX13 : u_T := fun k => match k with
  | 0 => ("StepDebts$Line", "n", "I", true)
  | _ => ("StepDebts$Line", "when", "LStepDebts$Cond;", true)
def tyX13 : Nat → FieldType := fun k => match k with
  | 0 => .int
  | _ => .object "StepDebts$Cond"
abbrev wsX130 : List Cond := u_ws RX13 TX13 2
theorem nmX13 : ∀ a, a < 2 → ∀ b, b < 2 → a ≠ b → (TX13 a).2.1 ≠ (TX13 b).2.1 := by decide +kernel
theorem tyX13_ok : ∀ k, k < 2 → parseFieldDescriptor (TX13 k).2.2.1 = some (tyX13 k) := by decide +kernel
abbrev cX13_init : ByteArray := prog_8_method_1_code
def yX13_init : MethodName := ⟨RX13, "<init>", "(ILStepDebts$Cond;)V"⟩
def dkwX13_init_0 : List UInt8 := [42, 183, 0, 1, 42, 27, 181, 0, 7, 42, 44, 181, 0, 13, 177]
abbrev dktX13_init_0 : List UInt8 := dkwX13_init_0 ++ []
theorem dksX13_init_0 : cX13_init.data.toList.drop 0 = dktX13_init_0 := by decide +kernel
theorem dX13_init_0 : decode cX13_init 0 = .ok (.aload_n 0, 1) := dk_42 (dk_at dksX13_init_0 0 rfl rfl)
theorem dX13_init_1 : decode cX13_init 1 = .ok (.invokespecial 1, 3) := dk_183 0 1 (dk_at dksX13_init_0 1 rfl rfl)
theorem dX13_init_4 : decode cX13_init 4 = .ok (.aload_n 0, 1) := dk_42 (dk_at dksX13_init_0 4 rfl rfl)
theorem dX13_init_5 : decode cX13_init 5 = .ok (.iload_n 1, 1) := dk_27 (dk_at dksX13_init_0 5 rfl rfl)
theorem dX13_init_6 : decode cX13_init 6 = .ok (.putfield 7, 3) := dk_181 0 7 (dk_at dksX13_init_0 6 rfl rfl)
theorem dX13_init_9 : decode cX13_init 9 = .ok (.aload_n 0, 1) := dk_42 (dk_at dksX13_init_0 9 rfl rfl)
theorem dX13_init_10 : decode cX13_init 10 = .ok (.aload_n 2, 1) := dk_44 (dk_at dksX13_init_0 10 rfl rfl)
theorem dX13_init_11 : decode cX13_init 11 = .ok (.putfield 13, 3) := dk_181 0 13 (dk_at dksX13_init_0 11 rfl rfl)
theorem dX13_init_14 : decode cX13_init 14 = .ok (.return_, 1) := dk_177 (dk_at dksX13_init_0 14 rfl rfl)
theorem q109 : (Jvm.Cond.initialized "StepDebts$Line") ∈ lw_all := lw_g (lw_at lw_m1 34 rfl) rfl
theorem q501 : (Jvm.Cond.selects "StepDebts$Line" ({ cls := "java/lang/Object", name := "getClass", desc := "()Ljava/lang/Class;" } : Jvm.MethodName) ({ cls := "java/lang/Object", name := "getClass", desc := "()Ljava/lang/Class;" } : Jvm.MethodName)) ∈ lw_all := lw_g (lw_at lw_m2 186 rfl) rfl
theorem q1223 : (Jvm.Cond.instantiable "StepDebts$Line" (2 : Nat)) ∈ lw_all := lw_g (lw_at lw_m5 188 rfl) rfl
theorem q1366 : (Jvm.Cond.instanceMethod ({ cls := "StepDebts$Line", name := "<init>", desc := "(ILStepDebts$Cond;)V" } : Jvm.MethodName)) ∈ lw_all := lw_g (lw_at lw_m6 91 rfl) rfl
theorem q1367 : (Jvm.Cond.code ({ cls := "StepDebts$Line", name := "<init>", desc := "(ILStepDebts$Cond;)V" } : Jvm.MethodName) prog_8_method_1_code (3 : Nat) (Option.none : Option Jvm.ClassFile.FieldType)) ∈ lw_all := lw_g (lw_at lw_m6 92 rfl) rfl
theorem q1368 : (Jvm.Cond.methodLink "StepDebts$Line" (1 : Nat) ({ cls := "java/lang/Object", name := "<init>", desc := "()V" } : Jvm.MethodName)) ∈ lw_all := lw_g (lw_at lw_m6 93 rfl) rfl
theorem q1369 : (Jvm.Cond.fieldLink "StepDebts$Line" (7 : Nat) "StepDebts$Line" "n" "I") ∈ lw_all := lw_g (lw_at lw_m6 94 rfl) rfl
theorem q1371 : (Jvm.Cond.fieldLink "StepDebts$Line" (13 : Nat) "StepDebts$Line" "when" "LStepDebts$Cond;") ∈ lw_all := lw_g (lw_at lw_m6 96 rfl) rfl
theorem q1373 : (Jvm.Cond.laysFinal "StepDebts$Line" "StepDebts$Line" "n" "I") ∈ lw_all := lw_g (lw_at lw_m6 98 rfl) rfl
theorem q1374 : (Jvm.Cond.soleField "StepDebts$Line" "n") ∈ lw_all := lw_g (lw_at lw_m6 99 rfl) rfl
theorem q1375 : (Jvm.Cond.laysFinal "StepDebts$Line" "StepDebts$Line" "when" "LStepDebts$Cond;") ∈ lw_all := lw_g (lw_at lw_m6 100 rfl) rfl
theorem q1376 : (Jvm.Cond.soleField "StepDebts$Line" "when") ∈ lw_all := lw_g (lw_at lw_m6 101 rfl) rfl
theorem q1377 : (Jvm.Cond.superclass "StepDebts$Line" "java/lang/Object") ∈ lw_all := lw_g (lw_at lw_m6 102 rfl) rfl
theorem q2192 : (Jvm.Cond.castable "StepDebts$Line" "java/lang/Object") ∈ lw_tbl := lw_at lw_m9 197 rfl
theorem in_X13 : ∀ w ∈ wsX130, w ∈ lw_all := lw_in wsX130 [1373, 1375] (by decide +kernel) (by decide +kernel)
/-! StepDebts$Row -/
set_option maxRecDepth 100000
def RX14 : String := "StepDebts$Row"
def TX14 : u_T := fun k => match k with
  | 0 => ("StepDebts$Row", "all", "Z", true)
  | _ => ("StepDebts$Row", "row", "Ljava/util/ArrayList;", true)
def tyX14 : Nat → FieldType := fun k => match k with
  | 0 => .boolean
  | _ => .object "java/util/ArrayList"
abbrev wsX140 : List Cond := u_ws RX14 TX14 2
theorem nmX14 : ∀ a, a < 2 → ∀ b, b < 2 → a ≠ b → (TX14 a).2.1 ≠ (TX14 b).2.1 := by decide +kernel
theorem tyX14_ok : ∀ k, k < 2 → parseFieldDescriptor (TX14 k).2.2.1 = some (tyX14 k) := by decide +kernel
abbrev cX14_init : ByteArray := prog_14_method_1_code
def yX14_init : MethodName := ⟨RX14, "<init>", "(Z)V"⟩
def dkwX14_init_0 : List UInt8 := [42, 183, 0, 1, 42, 187, 0, 7, 89, 183, 0, 9, 181, 0, 10, 42, 27, 181, 0, 16, 177]
abbrev dktX14_init_0 : List UInt8 := dkwX14_init_0 ++ []
theorem dksX14_init_0 : cX14_init.data.toList.drop 0 = dktX14_init_0 := by decide +kernel
theorem dX14_init_0 : decode cX14_init 0 = .ok (.aload_n 0, 1) := dk_42 (dk_at dksX14_init_0 0 rfl rfl)
theorem dX14_init_1 : decode cX14_init 1 = .ok (.invokespecial 1, 3) := dk_183 0 1 (dk_at dksX14_init_0 1 rfl rfl)
theorem dX14_init_4 : decode cX14_init 4 = .ok (.aload_n 0, 1) := dk_42 (dk_at dksX14_init_0 4 rfl rfl)
theorem dX14_init_5 : decode cX14_init 5 = .ok (.new 7, 3) := dk_187 0 7 (dk_at dksX14_init_0 5 rfl rfl)
theorem dX14_init_8 : decode cX14_init 8 = .ok (.dup, 1) := dk_89 (dk_at dksX14_init_0 8 rfl rfl)
theorem dX14_init_9 : decode cX14_init 9 = .ok (.invokespecial 9, 3) := dk_183 0 9 (dk_at dksX14_init_0 9 rfl rfl)
theorem dX14_init_12 : decode cX14_init 12 = .ok (.putfield 10, 3) := dk_181 0 10 (dk_at dksX14_init_0 12 rfl rfl)
theorem dX14_init_15 : decode cX14_init 15 = .ok (.aload_n 0, 1) := dk_42 (dk_at dksX14_init_0 15 rfl rfl)
theorem dX14_init_16 : decode cX14_init 16 = .ok (.iload_n 1, 1) := dk_27 (dk_at dksX14_init_0 16 rfl rfl)
theorem dX14_init_17 : decode cX14_init 17 = .ok (.putfield 16, 3) := dk_181 0 16 (dk_at dksX14_init_0 17 rfl rfl)
theorem dX14_init_20 : decode cX14_init 20 = .ok (.return_, 1) := dk_177 (dk_at dksX14_init_0 20 rfl rfl)
abbrev cX14_holds : ByteArray := prog_14_method_2_code
def yX14_holds : MethodName := ⟨RX14, "holds", "(LStepDebts$Scene;)Z"⟩
def dkwX14_holds_2 : List UInt8 := [3, 172, 132, 2, 1, 167, 255, 205, 42, 180, 0, 16, 172]
abbrev dktX14_holds_2 : List UInt8 := dkwX14_holds_2 ++ []
def dkwX14_holds_1 : List UInt8 := [43, 185, 0, 30, 2, 0, 42, 180, 0, 16, 159, 0, 16, 42, 180, 0, 16, 154, 0, 7, 4, 167, 0, 4]
abbrev dktX14_holds_1 : List UInt8 := dkwX14_holds_1 ++ dktX14_holds_2
def dkwX14_holds_0 : List UInt8 := [3, 61, 28, 42, 180, 0, 10, 182, 0, 20, 162, 0, 46, 42, 180, 0, 10, 28, 182, 0, 24, 192, 0, 28]
abbrev dktX14_holds_0 : List UInt8 := dkwX14_holds_0 ++ dktX14_holds_1
theorem dksX14_holds_0 : cX14_holds.data.toList.drop 0 = dktX14_holds_0 := by decide +kernel
theorem dksX14_holds_1 : cX14_holds.data.toList.drop 24 = dktX14_holds_1 := dk_seg dksX14_holds_0 24 rfl rfl
theorem dksX14_holds_2 : cX14_holds.data.toList.drop 48 = dktX14_holds_2 := dk_seg dksX14_holds_1 24 rfl rfl
theorem dX14_holds_0 : decode cX14_holds 0 = .ok (.iconst 0, 1) := dk_3 (dk_at dksX14_holds_0 0 rfl rfl)
theorem dX14_holds_1 : decode cX14_holds 1 = .ok (.istore_n 2, 1) := dk_61 (dk_at dksX14_holds_0 1 rfl rfl)
theorem dX14_holds_2 : decode cX14_holds 2 = .ok (.iload_n 2, 1) := dk_28 (dk_at dksX14_holds_0 2 rfl rfl)
theorem dX14_holds_3 : decode cX14_holds 3 = .ok (.aload_n 0, 1) := dk_42 (dk_at dksX14_holds_0 3 rfl rfl)
theorem dX14_holds_4 : decode cX14_holds 4 = .ok (.getfield 10, 3) := dk_180 0 10 (dk_at dksX14_holds_0 4 rfl rfl)
theorem dX14_holds_7 : decode cX14_holds 7 = .ok (.invokevirtual 20, 3) := dk_182 0 20 (dk_at dksX14_holds_0 7 rfl rfl)
theorem dX14_holds_10 : decode cX14_holds 10 = .ok (.if_icmp .ge 46, 3) := dk_162 0 46 (dk_at dksX14_holds_0 10 rfl rfl)
theorem dX14_holds_13 : decode cX14_holds 13 = .ok (.aload_n 0, 1) := dk_42 (dk_at dksX14_holds_0 13 rfl rfl)
theorem dX14_holds_14 : decode cX14_holds 14 = .ok (.getfield 10, 3) := dk_180 0 10 (dk_at dksX14_holds_0 14 rfl rfl)
theorem dX14_holds_17 : decode cX14_holds 17 = .ok (.iload_n 2, 1) := dk_28 (dk_at dksX14_holds_0 17 rfl rfl)
theorem dX14_holds_18 : decode cX14_holds 18 = .ok (.invokevirtual 24, 3) := dk_182 0 24 (dk_at dksX14_holds_0 18 rfl rfl)
theorem dX14_holds_21 : decode cX14_holds 21 = .ok (.checkcast 28, 3) := dk_192 0 28 (dk_at dksX14_holds_0 21 rfl rfl)
theorem dX14_holds_24 : decode cX14_holds 24 = .ok (.aload_n 1, 1) := dk_43 (dk_at dksX14_holds_1 0 rfl rfl)
theorem dX14_holds_25 : decode cX14_holds 25 = .ok (.invokeinterface 30 2, 5) := by decide +kernel
theorem dX14_holds_30 : decode cX14_holds 30 = .ok (.aload_n 0, 1) := dk_42 (dk_at dksX14_holds_1 6 rfl rfl)
theorem dX14_holds_31 : decode cX14_holds 31 = .ok (.getfield 16, 3) := dk_180 0 16 (dk_at dksX14_holds_1 7 rfl rfl)
theorem dX14_holds_34 : decode cX14_holds 34 = .ok (.if_icmp .eq 16, 3) := dk_159 0 16 (dk_at dksX14_holds_1 10 rfl rfl)
theorem dX14_holds_37 : decode cX14_holds 37 = .ok (.aload_n 0, 1) := dk_42 (dk_at dksX14_holds_1 13 rfl rfl)
theorem dX14_holds_38 : decode cX14_holds 38 = .ok (.getfield 16, 3) := dk_180 0 16 (dk_at dksX14_holds_1 14 rfl rfl)
theorem dX14_holds_41 : decode cX14_holds 41 = .ok (.ifCond .ne 7, 3) := dk_154 0 7 (dk_at dksX14_holds_1 17 rfl rfl)
theorem dX14_holds_44 : decode cX14_holds 44 = .ok (.iconst 1, 1) := dk_4 (dk_at dksX14_holds_1 20 rfl rfl)
theorem dX14_holds_45 : decode cX14_holds 45 = .ok (.goto 4, 3) := dk_167 0 4 (dk_at dksX14_holds_1 21 rfl rfl)
theorem dX14_holds_48 : decode cX14_holds 48 = .ok (.iconst 0, 1) := dk_3 (dk_at dksX14_holds_2 0 rfl rfl)
theorem dX14_holds_49 : decode cX14_holds 49 = .ok (.ireturn, 1) := dk_172 (dk_at dksX14_holds_2 1 rfl rfl)
theorem dX14_holds_50 : decode cX14_holds 50 = .ok (.iinc 2 1, 3) := dk_132 2 1 (dk_at dksX14_holds_2 2 rfl rfl)
theorem dX14_holds_53 : decode cX14_holds 53 = .ok (.goto (-51), 3) := dk_167 255 205 (dk_at dksX14_holds_2 5 rfl rfl)
theorem dX14_holds_56 : decode cX14_holds 56 = .ok (.aload_n 0, 1) := dk_42 (dk_at dksX14_holds_2 8 rfl rfl)
theorem dX14_holds_57 : decode cX14_holds 57 = .ok (.getfield 16, 3) := dk_180 0 16 (dk_at dksX14_holds_2 9 rfl rfl)
theorem dX14_holds_60 : decode cX14_holds 60 = .ok (.ireturn, 1) := dk_172 (dk_at dksX14_holds_2 12 rfl rfl)
theorem q110 : (Jvm.Cond.initialized "StepDebts$Row") ∈ lw_all := lw_g (lw_at lw_m1 35 rfl) rfl
theorem q507 : (Jvm.Cond.selects "StepDebts$Row" ({ cls := "java/lang/Object", name := "getClass", desc := "()Ljava/lang/Class;" } : Jvm.MethodName) ({ cls := "java/lang/Object", name := "getClass", desc := "()Ljava/lang/Class;" } : Jvm.MethodName)) ∈ lw_all := lw_g (lw_at lw_m2 192 rfl) rfl
theorem q1230 : (Jvm.Cond.instantiable "StepDebts$Row" (2 : Nat)) ∈ lw_all := lw_g (lw_at lw_m5 195 rfl) rfl
theorem q1232 : (Jvm.Cond.instanceMethod ({ cls := "StepDebts$Row", name := "<init>", desc := "(Z)V" } : Jvm.MethodName)) ∈ lw_all := lw_g (lw_at lw_m5 197 rfl) rfl
theorem q1233 : (Jvm.Cond.code ({ cls := "StepDebts$Row", name := "<init>", desc := "(Z)V" } : Jvm.MethodName) prog_14_method_1_code (2 : Nat) (Option.none : Option Jvm.ClassFile.FieldType)) ∈ lw_all := lw_g (lw_at lw_m5 198 rfl) rfl
theorem q1234 : (Jvm.Cond.methodLink "StepDebts$Row" (1 : Nat) ({ cls := "java/lang/Object", name := "<init>", desc := "()V" } : Jvm.MethodName)) ∈ lw_all := lw_g (lw_at lw_m5 199 rfl) rfl
theorem q1235 : (Jvm.Cond.classLink "StepDebts$Row" (7 : Nat) "java/util/ArrayList") ∈ lw_all := lw_g (lw_at lw_m5 200 rfl) rfl
theorem q1236 : (Jvm.Cond.methodLink "StepDebts$Row" (9 : Nat) ({ cls := "java/util/ArrayList", name := "<init>", desc := "()V" } : Jvm.MethodName)) ∈ lw_all := lw_g (lw_at lw_m5 201 rfl) rfl
theorem q1237 : (Jvm.Cond.fieldLink "StepDebts$Row" (16 : Nat) "StepDebts$Row" "all" "Z") ∈ lw_all := lw_g (lw_at lw_m5 202 rfl) rfl
theorem q1238 : (Jvm.Cond.fieldLink "StepDebts$Row" (10 : Nat) "StepDebts$Row" "row" "Ljava/util/ArrayList;") ∈ lw_all := lw_g (lw_at lw_m5 203 rfl) rfl
theorem q1240 : (Jvm.Cond.laysFinal "StepDebts$Row" "StepDebts$Row" "all" "Z") ∈ lw_all := lw_g (lw_at lw_m5 205 rfl) rfl
theorem q1241 : (Jvm.Cond.soleField "StepDebts$Row" "all") ∈ lw_all := lw_g (lw_at lw_m5 206 rfl) rfl
theorem q1242 : (Jvm.Cond.laysFinal "StepDebts$Row" "StepDebts$Row" "row" "Ljava/util/ArrayList;") ∈ lw_all := lw_g (lw_at lw_m5 207 rfl) rfl
theorem q1243 : (Jvm.Cond.soleField "StepDebts$Row" "row") ∈ lw_all := lw_g (lw_at lw_m5 208 rfl) rfl
theorem q1244 : (Jvm.Cond.superclass "StepDebts$Row" "java/lang/Object") ∈ lw_all := lw_g (lw_at lw_m5 209 rfl) rfl
theorem q1560 : (Jvm.Cond.castable "StepDebts$Row" "StepDebts$Cond") ∈ lw_tbl := lw_at lw_m7 45 rfl
theorem q1561 : (Jvm.Cond.selects "StepDebts$Row" ({ cls := "StepDebts$Cond", name := "holds", desc := "(LStepDebts$Scene;)Z" } : Jvm.MethodName) ({ cls := "StepDebts$Row", name := "holds", desc := "(LStepDebts$Scene;)Z" } : Jvm.MethodName)) ∈ lw_all := lw_g (lw_at lw_m7 46 rfl) rfl
theorem q1562 : (Jvm.Cond.unhidden "StepDebts$Row" "holds" "(LStepDebts$Scene;)Z") ∈ lw_tbl := lw_at lw_m7 47 rfl
theorem q1563 : (Jvm.Cond.instanceMethod ({ cls := "StepDebts$Row", name := "holds", desc := "(LStepDebts$Scene;)Z" } : Jvm.MethodName)) ∈ lw_all := lw_g (lw_at lw_m7 48 rfl) rfl
theorem q1564 : (Jvm.Cond.publicMethod ({ cls := "StepDebts$Row", name := "holds", desc := "(LStepDebts$Scene;)Z" } : Jvm.MethodName)) ∈ lw_tbl := lw_at lw_m7 49 rfl
theorem q1565 : (Jvm.Cond.code ({ cls := "StepDebts$Row", name := "holds", desc := "(LStepDebts$Scene;)Z" } : Jvm.MethodName) prog_14_method_2_code (3 : Nat) (Option.some Jvm.ClassFile.FieldType.boolean)) ∈ lw_all := lw_g (lw_at lw_m7 50 rfl) rfl
theorem q1566 : (Jvm.Cond.methodLink "StepDebts$Row" (20 : Nat) ({ cls := "java/util/ArrayList", name := "size", desc := "()I" } : Jvm.MethodName)) ∈ lw_all := lw_g (lw_at lw_m7 51 rfl) rfl
theorem q1567 : (Jvm.Cond.methodLink "StepDebts$Row" (24 : Nat) ({ cls := "java/util/ArrayList", name := "get", desc := "(I)Ljava/lang/Object;" } : Jvm.MethodName)) ∈ lw_all := lw_g (lw_at lw_m7 52 rfl) rfl
theorem q1568 : (Jvm.Cond.classLink "StepDebts$Row" (28 : Nat) "StepDebts$Cond") ∈ lw_all := lw_g (lw_at lw_m7 53 rfl) rfl
theorem q1569 : (Jvm.Cond.interfaceEntry "StepDebts$Row" (30 : Nat)) ∈ lw_tbl := lw_at lw_m7 54 rfl
theorem q1570 : (Jvm.Cond.methodLink "StepDebts$Row" (30 : Nat) ({ cls := "StepDebts$Cond", name := "holds", desc := "(LStepDebts$Scene;)Z" } : Jvm.MethodName)) ∈ lw_all := lw_g (lw_at lw_m7 55 rfl) rfl
theorem q2193 : (Jvm.Cond.castable "StepDebts$Row" "java/lang/Object") ∈ lw_tbl := lw_at lw_m9 198 rfl
theorem in_X14 : ∀ w ∈ wsX140, w ∈ lw_all := lw_in wsX140 [1240, 1242] (by decide +kernel) (by decide +kernel)
/-! StepDebts$Not -/
set_option maxRecDepth 100000
def RX15 : String := "StepDebts$Not"
def TX15 : u_T := fun k => match k with
  | _ => ("StepDebts$Not", "a", "LStepDebts$Cond;", true)
def tyX15 : Nat → FieldType := fun k => match k with
  | _ => .object "StepDebts$Cond"
abbrev wsX150 : List Cond := u_ws RX15 TX15 1
theorem nmX15 : ∀ a, a < 1 → ∀ b, b < 1 → a ≠ b → (TX15 a).2.1 ≠ (TX15 b).2.1 := by decide +kernel
theorem tyX15_ok : ∀ k, k < 1 → parseFieldDescriptor (TX15 k).2.2.1 = some (tyX15 k) := by decide +kernel
abbrev cX15_init : ByteArray := prog_9_method_1_code
def yX15_init : MethodName := ⟨RX15, "<init>", "(LStepDebts$Cond;)V"⟩
def dkwX15_init_0 : List UInt8 := [42, 183, 0, 1, 42, 43, 181, 0, 7, 177]
abbrev dktX15_init_0 : List UInt8 := dkwX15_init_0 ++ []
theorem dksX15_init_0 : cX15_init.data.toList.drop 0 = dktX15_init_0 := by decide +kernel
theorem dX15_init_0 : decode cX15_init 0 = .ok (.aload_n 0, 1) := dk_42 (dk_at dksX15_init_0 0 rfl rfl)
theorem dX15_init_1 : decode cX15_init 1 = .ok (.invokespecial 1, 3) := dk_183 0 1 (dk_at dksX15_init_0 1 rfl rfl)
theorem dX15_init_4 : decode cX15_init 4 = .ok (.aload_n 0, 1) := dk_42 (dk_at dksX15_init_0 4 rfl rfl)
theorem dX15_init_5 : decode cX15_init 5 = .ok (.aload_n 1, 1) := dk_43 (dk_at dksX15_init_0 5 rfl rfl)
theorem dX15_init_6 : decode cX15_init 6 = .ok (.putfield 7, 3) := dk_181 0 7 (dk_at dksX15_init_0 6 rfl rfl)
theorem dX15_init_9 : decode cX15_init 9 = .ok (.return_, 1) := dk_177 (dk_at dksX15_init_0 9 rfl rfl)
abbrev cX15_holds : ByteArray := prog_9_method_2_code
def yX15_holds : MethodName := ⟨RX15, "holds", "(LStepDebts$Scene;)Z"⟩
def dkwX15_holds_0 : List UInt8 := [42, 180, 0, 7, 43, 185, 0, 13, 2, 0, 154, 0, 7, 4, 167, 0, 4, 3, 172]
abbrev dktX15_holds_0 : List UInt8 := dkwX15_holds_0 ++ []
theorem dksX15_holds_0 : cX15_holds.data.toList.drop 0 = dktX15_holds_0 := by decide +kernel
theorem dX15_holds_0 : decode cX15_holds 0 = .ok (.aload_n 0, 1) := dk_42 (dk_at dksX15_holds_0 0 rfl rfl)
theorem dX15_holds_1 : decode cX15_holds 1 = .ok (.getfield 7, 3) := dk_180 0 7 (dk_at dksX15_holds_0 1 rfl rfl)
theorem dX15_holds_4 : decode cX15_holds 4 = .ok (.aload_n 1, 1) := dk_43 (dk_at dksX15_holds_0 4 rfl rfl)
theorem dX15_holds_5 : decode cX15_holds 5 = .ok (.invokeinterface 13 2, 5) := by decide +kernel
theorem dX15_holds_10 : decode cX15_holds 10 = .ok (.ifCond .ne 7, 3) := dk_154 0 7 (dk_at dksX15_holds_0 10 rfl rfl)
theorem dX15_holds_13 : decode cX15_holds 13 = .ok (.iconst 1, 1) := dk_4 (dk_at dksX15_holds_0 13 rfl rfl)
theorem dX15_holds_14 : decode cX15_holds 14 = .ok (.goto 4, 3) := dk_167 0 4 (dk_at dksX15_holds_0 14 rfl rfl)
theorem dX15_holds_17 : decode cX15_holds 17 = .ok (.iconst 0, 1) := dk_3 (dk_at dksX15_holds_0 17 rfl rfl)
theorem dX15_holds_18 : decode cX15_holds 18 = .ok (.ireturn, 1) := dk_172 (dk_at dksX15_holds_0 18 rfl rfl)
theorem q111 : (Jvm.Cond.initialized "StepDebts$Not") ∈ lw_all := lw_g (lw_at lw_m1 36 rfl) rfl
theorem q502 : (Jvm.Cond.selects "StepDebts$Not" ({ cls := "java/lang/Object", name := "getClass", desc := "()Ljava/lang/Class;" } : Jvm.MethodName) ({ cls := "java/lang/Object", name := "getClass", desc := "()Ljava/lang/Class;" } : Jvm.MethodName)) ∈ lw_all := lw_g (lw_at lw_m2 187 rfl) rfl
theorem q1263 : (Jvm.Cond.instantiable "StepDebts$Not" (1 : Nat)) ∈ lw_all := lw_g (lw_at lw_m5 228 rfl) rfl
theorem q1265 : (Jvm.Cond.instanceMethod ({ cls := "StepDebts$Not", name := "<init>", desc := "(LStepDebts$Cond;)V" } : Jvm.MethodName)) ∈ lw_all := lw_g (lw_at lw_m5 230 rfl) rfl
theorem q1266 : (Jvm.Cond.code ({ cls := "StepDebts$Not", name := "<init>", desc := "(LStepDebts$Cond;)V" } : Jvm.MethodName) prog_9_method_1_code (2 : Nat) (Option.none : Option Jvm.ClassFile.FieldType)) ∈ lw_all := lw_g (lw_at lw_m5 231 rfl) rfl
theorem q1267 : (Jvm.Cond.methodLink "StepDebts$Not" (1 : Nat) ({ cls := "java/lang/Object", name := "<init>", desc := "()V" } : Jvm.MethodName)) ∈ lw_all := lw_g (lw_at lw_m5 232 rfl) rfl
theorem q1268 : (Jvm.Cond.fieldLink "StepDebts$Not" (7 : Nat) "StepDebts$Not" "a" "LStepDebts$Cond;") ∈ lw_all := lw_g (lw_at lw_m5 233 rfl) rfl
theorem q1269 : (Jvm.Cond.laysFinal "StepDebts$Not" "StepDebts$Not" "a" "LStepDebts$Cond;") ∈ lw_all := lw_g (lw_at lw_m5 234 rfl) rfl
theorem q1270 : (Jvm.Cond.soleField "StepDebts$Not" "a") ∈ lw_all := lw_g (lw_at lw_m5 235 rfl) rfl
theorem q1271 : (Jvm.Cond.superclass "StepDebts$Not" "java/lang/Object") ∈ lw_all := lw_g (lw_at lw_m5 236 rfl) rfl
theorem q1552 : (Jvm.Cond.castable "StepDebts$Not" "StepDebts$Cond") ∈ lw_tbl := lw_at lw_m7 37 rfl
theorem q1553 : (Jvm.Cond.selects "StepDebts$Not" ({ cls := "StepDebts$Cond", name := "holds", desc := "(LStepDebts$Scene;)Z" } : Jvm.MethodName) ({ cls := "StepDebts$Not", name := "holds", desc := "(LStepDebts$Scene;)Z" } : Jvm.MethodName)) ∈ lw_all := lw_g (lw_at lw_m7 38 rfl) rfl
theorem q1554 : (Jvm.Cond.unhidden "StepDebts$Not" "holds" "(LStepDebts$Scene;)Z") ∈ lw_tbl := lw_at lw_m7 39 rfl
theorem q1555 : (Jvm.Cond.instanceMethod ({ cls := "StepDebts$Not", name := "holds", desc := "(LStepDebts$Scene;)Z" } : Jvm.MethodName)) ∈ lw_all := lw_g (lw_at lw_m7 40 rfl) rfl
theorem q1556 : (Jvm.Cond.publicMethod ({ cls := "StepDebts$Not", name := "holds", desc := "(LStepDebts$Scene;)Z" } : Jvm.MethodName)) ∈ lw_tbl := lw_at lw_m7 41 rfl
theorem q1557 : (Jvm.Cond.code ({ cls := "StepDebts$Not", name := "holds", desc := "(LStepDebts$Scene;)Z" } : Jvm.MethodName) prog_9_method_2_code (2 : Nat) (Option.some Jvm.ClassFile.FieldType.boolean)) ∈ lw_all := lw_g (lw_at lw_m7 42 rfl) rfl
theorem q1558 : (Jvm.Cond.interfaceEntry "StepDebts$Not" (13 : Nat)) ∈ lw_tbl := lw_at lw_m7 43 rfl
theorem q1559 : (Jvm.Cond.methodLink "StepDebts$Not" (13 : Nat) ({ cls := "StepDebts$Cond", name := "holds", desc := "(LStepDebts$Scene;)Z" } : Jvm.MethodName)) ∈ lw_all := lw_g (lw_at lw_m7 44 rfl) rfl
theorem q2194 : (Jvm.Cond.castable "StepDebts$Not" "java/lang/Object") ∈ lw_tbl := lw_at lw_m9 199 rfl
theorem in_X15 : ∀ w ∈ wsX150, w ∈ lw_all := lw_in wsX150 [1269] (by decide +kernel) (by decide +kernel)
/-! StepDebts$Tag -/
set_option maxRecDepth 100000
def RX16 : String := "StepDebts$Tag"
abbrev cX16_values : ByteArray := prog_17_method_1_code
def yX16_values : MethodName := ⟨RX16, "values", "()[LStepDebts$Tag;"⟩
def dkwX16_values_0 : List UInt8 := [178, 0, 22, 182, 0, 26, 192, 0, 27, 176]
abbrev dktX16_values_0 : List UInt8 := dkwX16_values_0 ++ []
theorem dksX16_values_0 : cX16_values.data.toList.drop 0 = dktX16_values_0 := by decide +kernel
theorem dX16_values_0 : decode cX16_values 0 = .ok (.getstatic 22, 3) := dk_178 0 22 (dk_at dksX16_values_0 0 rfl rfl)
theorem dX16_values_3 : decode cX16_values 3 = .ok (.invokevirtual 26, 3) := dk_182 0 26 (dk_at dksX16_values_0 3 rfl rfl)
theorem dX16_values_6 : decode cX16_values 6 = .ok (.checkcast 27, 3) := dk_192 0 27 (dk_at dksX16_values_0 6 rfl rfl)
theorem dX16_values_9 : decode cX16_values 9 = .ok (.areturn, 1) := dk_176 (dk_at dksX16_values_0 9 rfl rfl)
abbrev cX16_word : ByteArray := prog_17_method_4_code
def yX16_word : MethodName := ⟨RX16, "word", "()Ljava/lang/String;"⟩
theorem dX16_word_0 : decode cX16_word 0 = .ok (.aload_n 0, 1) := by decide +kernel
theorem dX16_word_1 : decode cX16_word 1 = .ok (.getfield 41, 3) := by decide +kernel
theorem dX16_word_4 : decode cX16_word 4 = .ok (.areturn, 1) := by decide +kernel
theorem q113 : (Jvm.Cond.initialized "StepDebts$Tag") ∈ lw_all := lw_g (lw_at lw_m1 38 rfl) rfl
theorem q510 : (Jvm.Cond.selects "StepDebts$Tag" ({ cls := "java/lang/Object", name := "getClass", desc := "()Ljava/lang/Class;" } : Jvm.MethodName) ({ cls := "java/lang/Object", name := "getClass", desc := "()Ljava/lang/Class;" } : Jvm.MethodName)) ∈ lw_all := lw_g (lw_at lw_m2 195 rfl) rfl
theorem q1273 : (Jvm.Cond.static ({ cls := "StepDebts$Tag", name := "values", desc := "()[LStepDebts$Tag;" } : Jvm.MethodName)) ∈ lw_all := lw_g (lw_at lw_m5 238 rfl) rfl
theorem q1274 : (Jvm.Cond.code ({ cls := "StepDebts$Tag", name := "values", desc := "()[LStepDebts$Tag;" } : Jvm.MethodName) prog_17_method_1_code (0 : Nat) (Option.some (Jvm.ClassFile.FieldType.array (Jvm.ClassFile.FieldType.object "StepDebts$Tag")))) ∈ lw_all := lw_g (lw_at lw_m5 239 rfl) rfl
theorem q1275 : (Jvm.Cond.fieldLink "StepDebts$Tag" (22 : Nat) "StepDebts$Tag" "$VALUES" "[LStepDebts$Tag;") ∈ lw_all := lw_g (lw_at lw_m6 0 rfl) rfl
theorem q1276 : (Jvm.Cond.laysStatic "StepDebts$Tag" "$VALUES" "[LStepDebts$Tag;") ∈ lw_tbl := lw_at lw_m6 1 rfl
theorem q1277 : (Jvm.Cond.methodLink "StepDebts$Tag" (26 : Nat) ({ cls := "[LStepDebts$Tag;", name := "clone", desc := "()Ljava/lang/Object;" } : Jvm.MethodName)) ∈ lw_all := lw_g (lw_at lw_m6 2 rfl) rfl
theorem q1282 : (Jvm.Cond.classLink "StepDebts$Tag" (27 : Nat) "[LStepDebts$Tag;") ∈ lw_all := lw_g (lw_at lw_m6 7 rfl) rfl
theorem q1284 : (Jvm.Cond.instanceMethod ({ cls := "StepDebts$Tag", name := "word", desc := "()Ljava/lang/String;" } : Jvm.MethodName)) ∈ lw_all := lw_g (lw_at lw_m6 9 rfl) rfl
theorem q1285 : (Jvm.Cond.selects "StepDebts$Tag" ({ cls := "StepDebts$Tag", name := "word", desc := "()Ljava/lang/String;" } : Jvm.MethodName) ({ cls := "StepDebts$Tag", name := "word", desc := "()Ljava/lang/String;" } : Jvm.MethodName)) ∈ lw_all := lw_g (lw_at lw_m6 10 rfl) rfl
theorem q1286 : (Jvm.Cond.code ({ cls := "StepDebts$Tag", name := "word", desc := "()Ljava/lang/String;" } : Jvm.MethodName) prog_17_method_4_code (1 : Nat) (Option.some (Jvm.ClassFile.FieldType.object "java/lang/String"))) ∈ lw_all := lw_g (lw_at lw_m6 11 rfl) rfl
theorem q1519 : (Jvm.Cond.laysStatic "StepDebts$Tag" "NIGHT" "LStepDebts$Tag;") ∈ lw_tbl := lw_at lw_m7 4 rfl
theorem q1521 : (Jvm.Cond.laysStatic "StepDebts$Tag" "OWN" "LStepDebts$Tag;") ∈ lw_tbl := lw_at lw_m7 6 rfl
theorem q1523 : (Jvm.Cond.sameMethod "StepDebts$Tag" "java/lang/Enum" "ordinal" "()I") ∈ lw_all := lw_g (lw_at lw_m7 8 rfl) rfl
theorem q1525 : (Jvm.Cond.selects "StepDebts$Tag" ({ cls := "StepDebts$Tag", name := "ordinal", desc := "()I" } : Jvm.MethodName) ({ cls := "java/lang/Enum", name := "ordinal", desc := "()I" } : Jvm.MethodName)) ∈ lw_all := lw_g (lw_at lw_m7 10 rfl) rfl
theorem q2172 : (Jvm.Cond.castable "StepDebts$Tag" "java/lang/Object") ∈ lw_tbl := lw_at lw_m9 177 rfl
theorem q2215 : (Jvm.Cond.fieldLink "StepDebts$Tag" (41 : Nat) "StepDebts$Tag" "told" "Ljava/lang/String;") ∈ lw_all := lw_g (lw_at lw_m9 220 rfl) rfl
theorem q2218 : (Jvm.Cond.laysStatic "StepDebts$Tag" "MAN" "LStepDebts$Tag;") ∈ lw_tbl := lw_at lw_m9 223 rfl
theorem q2219 : (Jvm.Cond.laysStatic "StepDebts$Tag" "CHILD" "LStepDebts$Tag;") ∈ lw_tbl := lw_at lw_m9 224 rfl
theorem q2220 : (Jvm.Cond.laysStatic "StepDebts$Tag" "DONKEY" "LStepDebts$Tag;") ∈ lw_tbl := lw_at lw_m9 225 rfl
theorem q2221 : (Jvm.Cond.laysStatic "StepDebts$Tag" "CRIPPLE" "LStepDebts$Tag;") ∈ lw_tbl := lw_at lw_m9 226 rfl
theorem q2226 : (Jvm.Cond.stringRef "StepDebts$Tag" (61 : Nat) "night") ∈ lw_tbl := lw_at lw_m9 231 rfl
theorem q2227 : (Jvm.Cond.stringRef "StepDebts$Tag" (64 : Nat) "own") ∈ lw_tbl := lw_at lw_m9 232 rfl
theorem q2228 : (Jvm.Cond.stringRef "StepDebts$Tag" (46 : Nat) "man") ∈ lw_tbl := lw_at lw_m9 233 rfl
theorem q2229 : (Jvm.Cond.stringRef "StepDebts$Tag" (52 : Nat) "child") ∈ lw_tbl := lw_at lw_m9 234 rfl
theorem q2230 : (Jvm.Cond.stringRef "StepDebts$Tag" (55 : Nat) "donkey") ∈ lw_tbl := lw_at lw_m9 235 rfl
theorem q2231 : (Jvm.Cond.stringRef "StepDebts$Tag" (58 : Nat) "cripple") ∈ lw_tbl := lw_at lw_m9 236 rfl
/-! StepDebts$Is -/
set_option maxRecDepth 100000
def RX17 : String := "StepDebts$Is"
def TX17 : u_T := fun k => match k with
  | _ => ("StepDebts$Is", "tag", "LStepDebts$Tag;", true)
def tyX17 : Nat → FieldType := fun k => match k with
  | _ => .object "StepDebts$Tag"
abbrev wsX170 : List Cond := u_ws RX17 TX17 1
theorem nmX17 : ∀ a, a < 1 → ∀ b, b < 1 → a ≠ b → (TX17 a).2.1 ≠ (TX17 b).2.1 := by decide +kernel
theorem tyX17_ok : ∀ k, k < 1 → parseFieldDescriptor (TX17 k).2.2.1 = some (tyX17 k) := by decide +kernel
abbrev cX17_init : ByteArray := prog_5_method_1_code
def yX17_init : MethodName := ⟨RX17, "<init>", "(LStepDebts$Tag;)V"⟩
def dkwX17_init_0 : List UInt8 := [42, 183, 0, 1, 42, 43, 181, 0, 7, 177]
abbrev dktX17_init_0 : List UInt8 := dkwX17_init_0 ++ []
theorem dksX17_init_0 : cX17_init.data.toList.drop 0 = dktX17_init_0 := by decide +kernel
theorem dX17_init_0 : decode cX17_init 0 = .ok (.aload_n 0, 1) := dk_42 (dk_at dksX17_init_0 0 rfl rfl)
theorem dX17_init_1 : decode cX17_init 1 = .ok (.invokespecial 1, 3) := dk_183 0 1 (dk_at dksX17_init_0 1 rfl rfl)
theorem dX17_init_4 : decode cX17_init 4 = .ok (.aload_n 0, 1) := dk_42 (dk_at dksX17_init_0 4 rfl rfl)
theorem dX17_init_5 : decode cX17_init 5 = .ok (.aload_n 1, 1) := dk_43 (dk_at dksX17_init_0 5 rfl rfl)
theorem dX17_init_6 : decode cX17_init 6 = .ok (.putfield 7, 3) := dk_181 0 7 (dk_at dksX17_init_0 6 rfl rfl)
theorem dX17_init_9 : decode cX17_init 9 = .ok (.return_, 1) := dk_177 (dk_at dksX17_init_0 9 rfl rfl)
abbrev cX17_holds : ByteArray := prog_5_method_2_code
def yX17_holds : MethodName := ⟨RX17, "holds", "(LStepDebts$Scene;)Z"⟩
def dkwX17_holds_0 : List UInt8 := [43, 42, 180, 0, 7, 182, 0, 13, 172]
abbrev dktX17_holds_0 : List UInt8 := dkwX17_holds_0 ++ []
theorem dksX17_holds_0 : cX17_holds.data.toList.drop 0 = dktX17_holds_0 := by decide +kernel
theorem dX17_holds_0 : decode cX17_holds 0 = .ok (.aload_n 1, 1) := dk_43 (dk_at dksX17_holds_0 0 rfl rfl)
theorem dX17_holds_1 : decode cX17_holds 1 = .ok (.aload_n 0, 1) := dk_42 (dk_at dksX17_holds_0 1 rfl rfl)
theorem dX17_holds_2 : decode cX17_holds 2 = .ok (.getfield 7, 3) := dk_180 0 7 (dk_at dksX17_holds_0 2 rfl rfl)
theorem dX17_holds_5 : decode cX17_holds 5 = .ok (.invokevirtual 13, 3) := dk_182 0 13 (dk_at dksX17_holds_0 5 rfl rfl)
theorem dX17_holds_8 : decode cX17_holds 8 = .ok (.ireturn, 1) := dk_172 (dk_at dksX17_holds_0 8 rfl rfl)
theorem q114 : (Jvm.Cond.initialized "StepDebts$Is") ∈ lw_all := lw_g (lw_at lw_m1 39 rfl) rfl
theorem q498 : (Jvm.Cond.selects "StepDebts$Is" ({ cls := "java/lang/Object", name := "getClass", desc := "()Ljava/lang/Class;" } : Jvm.MethodName) ({ cls := "java/lang/Object", name := "getClass", desc := "()Ljava/lang/Class;" } : Jvm.MethodName)) ∈ lw_all := lw_g (lw_at lw_m2 183 rfl) rfl
theorem q1288 : (Jvm.Cond.instantiable "StepDebts$Is" (1 : Nat)) ∈ lw_all := lw_g (lw_at lw_m6 13 rfl) rfl
theorem q1290 : (Jvm.Cond.instanceMethod ({ cls := "StepDebts$Is", name := "<init>", desc := "(LStepDebts$Tag;)V" } : Jvm.MethodName)) ∈ lw_all := lw_g (lw_at lw_m6 15 rfl) rfl
theorem q1291 : (Jvm.Cond.code ({ cls := "StepDebts$Is", name := "<init>", desc := "(LStepDebts$Tag;)V" } : Jvm.MethodName) prog_5_method_1_code (2 : Nat) (Option.none : Option Jvm.ClassFile.FieldType)) ∈ lw_all := lw_g (lw_at lw_m6 16 rfl) rfl
theorem q1292 : (Jvm.Cond.methodLink "StepDebts$Is" (1 : Nat) ({ cls := "java/lang/Object", name := "<init>", desc := "()V" } : Jvm.MethodName)) ∈ lw_all := lw_g (lw_at lw_m6 17 rfl) rfl
theorem q1293 : (Jvm.Cond.fieldLink "StepDebts$Is" (7 : Nat) "StepDebts$Is" "tag" "LStepDebts$Tag;") ∈ lw_all := lw_g (lw_at lw_m6 18 rfl) rfl
theorem q1294 : (Jvm.Cond.laysFinal "StepDebts$Is" "StepDebts$Is" "tag" "LStepDebts$Tag;") ∈ lw_all := lw_g (lw_at lw_m6 19 rfl) rfl
theorem q1295 : (Jvm.Cond.soleField "StepDebts$Is" "tag") ∈ lw_all := lw_g (lw_at lw_m6 20 rfl) rfl
theorem q1296 : (Jvm.Cond.superclass "StepDebts$Is" "java/lang/Object") ∈ lw_all := lw_g (lw_at lw_m6 21 rfl) rfl
theorem q1508 : (Jvm.Cond.castable "StepDebts$Is" "StepDebts$Cond") ∈ lw_tbl := lw_at lw_m6 233 rfl
theorem q1509 : (Jvm.Cond.selects "StepDebts$Is" ({ cls := "StepDebts$Cond", name := "holds", desc := "(LStepDebts$Scene;)Z" } : Jvm.MethodName) ({ cls := "StepDebts$Is", name := "holds", desc := "(LStepDebts$Scene;)Z" } : Jvm.MethodName)) ∈ lw_all := lw_g (lw_at lw_m6 234 rfl) rfl
theorem q1510 : (Jvm.Cond.unhidden "StepDebts$Is" "holds" "(LStepDebts$Scene;)Z") ∈ lw_tbl := lw_at lw_m6 235 rfl
theorem q1511 : (Jvm.Cond.instanceMethod ({ cls := "StepDebts$Is", name := "holds", desc := "(LStepDebts$Scene;)Z" } : Jvm.MethodName)) ∈ lw_all := lw_g (lw_at lw_m6 236 rfl) rfl
theorem q1512 : (Jvm.Cond.publicMethod ({ cls := "StepDebts$Is", name := "holds", desc := "(LStepDebts$Scene;)Z" } : Jvm.MethodName)) ∈ lw_tbl := lw_at lw_m6 237 rfl
theorem q1513 : (Jvm.Cond.code ({ cls := "StepDebts$Is", name := "holds", desc := "(LStepDebts$Scene;)Z" } : Jvm.MethodName) prog_5_method_2_code (2 : Nat) (Option.some Jvm.ClassFile.FieldType.boolean)) ∈ lw_all := lw_g (lw_at lw_m6 238 rfl) rfl
theorem q1514 : (Jvm.Cond.methodLink "StepDebts$Is" (13 : Nat) ({ cls := "StepDebts$Scene", name := "is", desc := "(LStepDebts$Tag;)Z" } : Jvm.MethodName)) ∈ lw_all := lw_g (lw_at lw_m6 239 rfl) rfl
theorem q2195 : (Jvm.Cond.castable "StepDebts$Is" "java/lang/Object") ∈ lw_tbl := lw_at lw_m9 200 rfl
theorem in_X17 : ∀ w ∈ wsX170, w ∈ lw_all := lw_in wsX170 [1294] (by decide +kernel) (by decide +kernel)
/-! StepDebts$Sum -/
set_option maxRecDepth 100000
def RX18 : String := "StepDebts$Sum"
def TX18 : u_T := fun k => match k with
  | _ => ("StepDebts$Sum", "parts", "Ljava/util/ArrayList;", true)
def tyX18 : Nat → FieldType := fun k => match k with
  | _ => .object "java/util/ArrayList"
abbrev wsX180 : List Cond := u_ws RX18 TX18 1
theorem nmX18 : ∀ a, a < 1 → ∀ b, b < 1 → a ≠ b → (TX18 a).2.1 ≠ (TX18 b).2.1 := by decide +kernel
theorem tyX18_ok : ∀ k, k < 1 → parseFieldDescriptor (TX18 k).2.2.1 = some (tyX18 k) := by decide +kernel
abbrev cX18_init : ByteArray := prog_16_method_1_code
def yX18_init : MethodName := ⟨RX18, "<init>", "()V"⟩
def dkwX18_init_0 : List UInt8 := [42, 183, 0, 1, 42, 187, 0, 7, 89, 183, 0, 9, 181, 0, 10, 177]
abbrev dktX18_init_0 : List UInt8 := dkwX18_init_0 ++ []
theorem dksX18_init_0 : cX18_init.data.toList.drop 0 = dktX18_init_0 := by decide +kernel
theorem dX18_init_0 : decode cX18_init 0 = .ok (.aload_n 0, 1) := dk_42 (dk_at dksX18_init_0 0 rfl rfl)
theorem dX18_init_1 : decode cX18_init 1 = .ok (.invokespecial 1, 3) := dk_183 0 1 (dk_at dksX18_init_0 1 rfl rfl)
theorem dX18_init_4 : decode cX18_init 4 = .ok (.aload_n 0, 1) := dk_42 (dk_at dksX18_init_0 4 rfl rfl)
theorem dX18_init_5 : decode cX18_init 5 = .ok (.new 7, 3) := dk_187 0 7 (dk_at dksX18_init_0 5 rfl rfl)
theorem dX18_init_8 : decode cX18_init 8 = .ok (.dup, 1) := dk_89 (dk_at dksX18_init_0 8 rfl rfl)
theorem dX18_init_9 : decode cX18_init 9 = .ok (.invokespecial 9, 3) := dk_183 0 9 (dk_at dksX18_init_0 9 rfl rfl)
theorem dX18_init_12 : decode cX18_init 12 = .ok (.putfield 10, 3) := dk_181 0 10 (dk_at dksX18_init_0 12 rfl rfl)
theorem dX18_init_15 : decode cX18_init 15 = .ok (.return_, 1) := dk_177 (dk_at dksX18_init_0 15 rfl rfl)
abbrev cX18_in : ByteArray := prog_16_method_2_code
def yX18_in : MethodName := ⟨RX18, "in", "(LStepDebts$Scene;)I"⟩
def dkwX18_in_1 : List UInt8 := [192, 0, 24, 43, 182, 0, 26, 96, 61, 132, 3, 1, 167, 255, 224, 28, 172]
abbrev dktX18_in_1 : List UInt8 := dkwX18_in_1 ++ []
def dkwX18_in_0 : List UInt8 := [3, 61, 3, 62, 29, 42, 180, 0, 10, 182, 0, 16, 162, 0, 27, 28, 42, 180, 0, 10, 29, 182, 0, 20]
abbrev dktX18_in_0 : List UInt8 := dkwX18_in_0 ++ dktX18_in_1
theorem dksX18_in_0 : cX18_in.data.toList.drop 0 = dktX18_in_0 := by decide +kernel
theorem dksX18_in_1 : cX18_in.data.toList.drop 24 = dktX18_in_1 := dk_seg dksX18_in_0 24 rfl rfl
theorem dX18_in_0 : decode cX18_in 0 = .ok (.iconst 0, 1) := dk_3 (dk_at dksX18_in_0 0 rfl rfl)
theorem dX18_in_1 : decode cX18_in 1 = .ok (.istore_n 2, 1) := dk_61 (dk_at dksX18_in_0 1 rfl rfl)
theorem dX18_in_2 : decode cX18_in 2 = .ok (.iconst 0, 1) := dk_3 (dk_at dksX18_in_0 2 rfl rfl)
theorem dX18_in_3 : decode cX18_in 3 = .ok (.istore_n 3, 1) := dk_62 (dk_at dksX18_in_0 3 rfl rfl)
theorem dX18_in_4 : decode cX18_in 4 = .ok (.iload_n 3, 1) := dk_29 (dk_at dksX18_in_0 4 rfl rfl)
theorem dX18_in_5 : decode cX18_in 5 = .ok (.aload_n 0, 1) := dk_42 (dk_at dksX18_in_0 5 rfl rfl)
theorem dX18_in_6 : decode cX18_in 6 = .ok (.getfield 10, 3) := dk_180 0 10 (dk_at dksX18_in_0 6 rfl rfl)
theorem dX18_in_9 : decode cX18_in 9 = .ok (.invokevirtual 16, 3) := dk_182 0 16 (dk_at dksX18_in_0 9 rfl rfl)
theorem dX18_in_12 : decode cX18_in 12 = .ok (.if_icmp .ge 27, 3) := dk_162 0 27 (dk_at dksX18_in_0 12 rfl rfl)
theorem dX18_in_15 : decode cX18_in 15 = .ok (.iload_n 2, 1) := dk_28 (dk_at dksX18_in_0 15 rfl rfl)
theorem dX18_in_16 : decode cX18_in 16 = .ok (.aload_n 0, 1) := dk_42 (dk_at dksX18_in_0 16 rfl rfl)
theorem dX18_in_17 : decode cX18_in 17 = .ok (.getfield 10, 3) := dk_180 0 10 (dk_at dksX18_in_0 17 rfl rfl)
theorem dX18_in_20 : decode cX18_in 20 = .ok (.iload_n 3, 1) := dk_29 (dk_at dksX18_in_0 20 rfl rfl)
theorem dX18_in_21 : decode cX18_in 21 = .ok (.invokevirtual 20, 3) := dk_182 0 20 (dk_at dksX18_in_0 21 rfl rfl)
theorem dX18_in_24 : decode cX18_in 24 = .ok (.checkcast 24, 3) := dk_192 0 24 (dk_at dksX18_in_1 0 rfl rfl)
theorem dX18_in_27 : decode cX18_in 27 = .ok (.aload_n 1, 1) := dk_43 (dk_at dksX18_in_1 3 rfl rfl)
theorem dX18_in_28 : decode cX18_in 28 = .ok (.invokevirtual 26, 3) := dk_182 0 26 (dk_at dksX18_in_1 4 rfl rfl)
theorem dX18_in_31 : decode cX18_in 31 = .ok (.iadd, 1) := dk_96 (dk_at dksX18_in_1 7 rfl rfl)
theorem dX18_in_32 : decode cX18_in 32 = .ok (.istore_n 2, 1) := dk_61 (dk_at dksX18_in_1 8 rfl rfl)
theorem dX18_in_33 : decode cX18_in 33 = .ok (.iinc 3 1, 3) := dk_132 3 1 (dk_at dksX18_in_1 9 rfl rfl)
theorem dX18_in_36 : decode cX18_in 36 = .ok (.goto (-32), 3) := dk_167 255 224 (dk_at dksX18_in_1 12 rfl rfl)
theorem dX18_in_39 : decode cX18_in 39 = .ok (.iload_n 2, 1) := dk_28 (dk_at dksX18_in_1 15 rfl rfl)
theorem dX18_in_40 : decode cX18_in 40 = .ok (.ireturn, 1) := dk_172 (dk_at dksX18_in_1 16 rfl rfl)
theorem q115 : (Jvm.Cond.initialized "StepDebts$Sum") ∈ lw_all := lw_g (lw_at lw_m1 40 rfl) rfl
theorem q509 : (Jvm.Cond.selects "StepDebts$Sum" ({ cls := "java/lang/Object", name := "getClass", desc := "()Ljava/lang/Class;" } : Jvm.MethodName) ({ cls := "java/lang/Object", name := "getClass", desc := "()Ljava/lang/Class;" } : Jvm.MethodName)) ∈ lw_all := lw_g (lw_at lw_m2 194 rfl) rfl
theorem q1302 : (Jvm.Cond.instantiable "StepDebts$Sum" (1 : Nat)) ∈ lw_all := lw_g (lw_at lw_m6 27 rfl) rfl
theorem q1304 : (Jvm.Cond.instanceMethod ({ cls := "StepDebts$Sum", name := "<init>", desc := "()V" } : Jvm.MethodName)) ∈ lw_all := lw_g (lw_at lw_m6 29 rfl) rfl
theorem q1305 : (Jvm.Cond.code ({ cls := "StepDebts$Sum", name := "<init>", desc := "()V" } : Jvm.MethodName) prog_16_method_1_code (1 : Nat) (Option.none : Option Jvm.ClassFile.FieldType)) ∈ lw_all := lw_g (lw_at lw_m6 30 rfl) rfl
theorem q1306 : (Jvm.Cond.methodLink "StepDebts$Sum" (1 : Nat) ({ cls := "java/lang/Object", name := "<init>", desc := "()V" } : Jvm.MethodName)) ∈ lw_all := lw_g (lw_at lw_m6 31 rfl) rfl
theorem q1307 : (Jvm.Cond.classLink "StepDebts$Sum" (7 : Nat) "java/util/ArrayList") ∈ lw_all := lw_g (lw_at lw_m6 32 rfl) rfl
theorem q1308 : (Jvm.Cond.methodLink "StepDebts$Sum" (9 : Nat) ({ cls := "java/util/ArrayList", name := "<init>", desc := "()V" } : Jvm.MethodName)) ∈ lw_all := lw_g (lw_at lw_m6 33 rfl) rfl
theorem q1309 : (Jvm.Cond.fieldLink "StepDebts$Sum" (10 : Nat) "StepDebts$Sum" "parts" "Ljava/util/ArrayList;") ∈ lw_all := lw_g (lw_at lw_m6 34 rfl) rfl
theorem q1311 : (Jvm.Cond.laysFinal "StepDebts$Sum" "StepDebts$Sum" "parts" "Ljava/util/ArrayList;") ∈ lw_all := lw_g (lw_at lw_m6 36 rfl) rfl
theorem q1312 : (Jvm.Cond.soleField "StepDebts$Sum" "parts") ∈ lw_all := lw_g (lw_at lw_m6 37 rfl) rfl
theorem q1313 : (Jvm.Cond.superclass "StepDebts$Sum" "java/lang/Object") ∈ lw_all := lw_g (lw_at lw_m6 38 rfl) rfl
theorem q1535 : (Jvm.Cond.instanceMethod ({ cls := "StepDebts$Sum", name := "in", desc := "(LStepDebts$Scene;)I" } : Jvm.MethodName)) ∈ lw_all := lw_g (lw_at lw_m7 20 rfl) rfl
theorem q1536 : (Jvm.Cond.selects "StepDebts$Sum" ({ cls := "StepDebts$Sum", name := "in", desc := "(LStepDebts$Scene;)I" } : Jvm.MethodName) ({ cls := "StepDebts$Sum", name := "in", desc := "(LStepDebts$Scene;)I" } : Jvm.MethodName)) ∈ lw_all := lw_g (lw_at lw_m7 21 rfl) rfl
theorem q1537 : (Jvm.Cond.code ({ cls := "StepDebts$Sum", name := "in", desc := "(LStepDebts$Scene;)I" } : Jvm.MethodName) prog_16_method_2_code (4 : Nat) (Option.some Jvm.ClassFile.FieldType.int)) ∈ lw_all := lw_g (lw_at lw_m7 22 rfl) rfl
theorem q1538 : (Jvm.Cond.methodLink "StepDebts$Sum" (16 : Nat) ({ cls := "java/util/ArrayList", name := "size", desc := "()I" } : Jvm.MethodName)) ∈ lw_all := lw_g (lw_at lw_m7 23 rfl) rfl
theorem q1539 : (Jvm.Cond.methodLink "StepDebts$Sum" (20 : Nat) ({ cls := "java/util/ArrayList", name := "get", desc := "(I)Ljava/lang/Object;" } : Jvm.MethodName)) ∈ lw_all := lw_g (lw_at lw_m7 24 rfl) rfl
theorem q1540 : (Jvm.Cond.classLink "StepDebts$Sum" (24 : Nat) "StepDebts$Part") ∈ lw_all := lw_g (lw_at lw_m7 25 rfl) rfl
theorem q1541 : (Jvm.Cond.methodLink "StepDebts$Sum" (26 : Nat) ({ cls := "StepDebts$Part", name := "in", desc := "(LStepDebts$Scene;)I" } : Jvm.MethodName)) ∈ lw_all := lw_g (lw_at lw_m7 26 rfl) rfl
theorem q2196 : (Jvm.Cond.castable "StepDebts$Sum" "java/lang/Object") ∈ lw_tbl := lw_at lw_m9 201 rfl
theorem in_X18 : ∀ w ∈ wsX180, w ∈ lw_all := lw_in wsX180 [1311] (by decide +kernel) (by decide +kernel)
/-! StepDebts$Part -/
set_option maxRecDepth 100000
def RX19 : String := "StepDebts$Part"
def TX19 : u_T := fun k => match k with
  | 0 => ("StepDebts$Part", "n", "I", true)
  | _ => ("StepDebts$Part", "fact", "LStepDebts$Fact;", true)
def tyX19 : Nat → FieldType := fun k => match k with
  | 0 => .int
  | _ => .object "StepDebts$Fact"
abbrev wsX190 : List Cond := u_ws RX19 TX19 2
theorem nmX19 : ∀ a, a < 2 → ∀ b, b < 2 → a ≠ b → (TX19 a).2.1 ≠ (TX19 b).2.1 := by decide +kernel
theorem tyX19_ok : ∀ k, k < 2 → parseFieldDescriptor (TX19 k).2.2.1 = some (tyX19 k) := by decide +kernel
abbrev cX19_init : ByteArray := prog_11_method_1_code
def yX19_init : MethodName := ⟨RX19, "<init>", "(ILStepDebts$Fact;)V"⟩
def dkwX19_init_0 : List UInt8 := [42, 183, 0, 1, 42, 27, 181, 0, 7, 42, 44, 181, 0, 13, 177]
abbrev dktX19_init_0 : List UInt8 := dkwX19_init_0 ++ []
theorem dksX19_init_0 : cX19_init.data.toList.drop 0 = dktX19_init_0 := by decide +kernel
theorem dX19_init_0 : decode cX19_init 0 = .ok (.aload_n 0, 1) := dk_42 (dk_at dksX19_init_0 0 rfl rfl)
theorem dX19_init_1 : decode cX19_init 1 = .ok (.invokespecial 1, 3) := dk_183 0 1 (dk_at dksX19_init_0 1 rfl rfl)
theorem dX19_init_4 : decode cX19_init 4 = .ok (.aload_n 0, 1) := dk_42 (dk_at dksX19_init_0 4 rfl rfl)
theorem dX19_init_5 : decode cX19_init 5 = .ok (.iload_n 1, 1) := dk_27 (dk_at dksX19_init_0 5 rfl rfl)
theorem dX19_init_6 : decode cX19_init 6 = .ok (.putfield 7, 3) := dk_181 0 7 (dk_at dksX19_init_0 6 rfl rfl)
theorem dX19_init_9 : decode cX19_init 9 = .ok (.aload_n 0, 1) := dk_42 (dk_at dksX19_init_0 9 rfl rfl)
theorem dX19_init_10 : decode cX19_init 10 = .ok (.aload_n 2, 1) := dk_44 (dk_at dksX19_init_0 10 rfl rfl)
theorem dX19_init_11 : decode cX19_init 11 = .ok (.putfield 13, 3) := dk_181 0 13 (dk_at dksX19_init_0 11 rfl rfl)
theorem dX19_init_14 : decode cX19_init 14 = .ok (.return_, 1) := dk_177 (dk_at dksX19_init_0 14 rfl rfl)
abbrev cX19_in : ByteArray := prog_11_method_2_code
def yX19_in : MethodName := ⟨RX19, "in", "(LStepDebts$Scene;)I"⟩
def dkwX19_in_0 : List UInt8 := [42, 180, 0, 13, 199, 0, 10, 42, 180, 0, 7, 167, 0, 11, 43, 42, 180, 0, 13, 182, 0, 17, 172]
abbrev dktX19_in_0 : List UInt8 := dkwX19_in_0 ++ []
theorem dksX19_in_0 : cX19_in.data.toList.drop 0 = dktX19_in_0 := by decide +kernel
theorem dX19_in_0 : decode cX19_in 0 = .ok (.aload_n 0, 1) := dk_42 (dk_at dksX19_in_0 0 rfl rfl)
theorem dX19_in_1 : decode cX19_in 1 = .ok (.getfield 13, 3) := dk_180 0 13 (dk_at dksX19_in_0 1 rfl rfl)
theorem dX19_in_4 : decode cX19_in 4 = .ok (.ifnonnull 10, 3) := dk_199 0 10 (dk_at dksX19_in_0 4 rfl rfl)
theorem dX19_in_7 : decode cX19_in 7 = .ok (.aload_n 0, 1) := dk_42 (dk_at dksX19_in_0 7 rfl rfl)
theorem dX19_in_8 : decode cX19_in 8 = .ok (.getfield 7, 3) := dk_180 0 7 (dk_at dksX19_in_0 8 rfl rfl)
theorem dX19_in_11 : decode cX19_in 11 = .ok (.goto 11, 3) := dk_167 0 11 (dk_at dksX19_in_0 11 rfl rfl)
theorem dX19_in_14 : decode cX19_in 14 = .ok (.aload_n 1, 1) := dk_43 (dk_at dksX19_in_0 14 rfl rfl)
theorem dX19_in_15 : decode cX19_in 15 = .ok (.aload_n 0, 1) := dk_42 (dk_at dksX19_in_0 15 rfl rfl)
theorem dX19_in_16 : decode cX19_in 16 = .ok (.getfield 13, 3) := dk_180 0 13 (dk_at dksX19_in_0 16 rfl rfl)
theorem dX19_in_19 : decode cX19_in 19 = .ok (.invokevirtual 17, 3) := dk_182 0 17 (dk_at dksX19_in_0 19 rfl rfl)
theorem dX19_in_22 : decode cX19_in 22 = .ok (.ireturn, 1) := dk_172 (dk_at dksX19_in_0 22 rfl rfl)
theorem q116 : (Jvm.Cond.initialized "StepDebts$Part") ∈ lw_all := lw_g (lw_at lw_m1 41 rfl) rfl
theorem q504 : (Jvm.Cond.selects "StepDebts$Part" ({ cls := "java/lang/Object", name := "getClass", desc := "()Ljava/lang/Class;" } : Jvm.MethodName) ({ cls := "java/lang/Object", name := "getClass", desc := "()Ljava/lang/Class;" } : Jvm.MethodName)) ∈ lw_all := lw_g (lw_at lw_m2 189 rfl) rfl
theorem q1323 : (Jvm.Cond.instantiable "StepDebts$Part" (2 : Nat)) ∈ lw_all := lw_g (lw_at lw_m6 48 rfl) rfl
theorem q1325 : (Jvm.Cond.instanceMethod ({ cls := "StepDebts$Part", name := "<init>", desc := "(ILStepDebts$Fact;)V" } : Jvm.MethodName)) ∈ lw_all := lw_g (lw_at lw_m6 50 rfl) rfl
theorem q1326 : (Jvm.Cond.code ({ cls := "StepDebts$Part", name := "<init>", desc := "(ILStepDebts$Fact;)V" } : Jvm.MethodName) prog_11_method_1_code (3 : Nat) (Option.none : Option Jvm.ClassFile.FieldType)) ∈ lw_all := lw_g (lw_at lw_m6 51 rfl) rfl
theorem q1327 : (Jvm.Cond.methodLink "StepDebts$Part" (1 : Nat) ({ cls := "java/lang/Object", name := "<init>", desc := "()V" } : Jvm.MethodName)) ∈ lw_all := lw_g (lw_at lw_m6 52 rfl) rfl
theorem q1328 : (Jvm.Cond.fieldLink "StepDebts$Part" (7 : Nat) "StepDebts$Part" "n" "I") ∈ lw_all := lw_g (lw_at lw_m6 53 rfl) rfl
theorem q1329 : (Jvm.Cond.fieldLink "StepDebts$Part" (13 : Nat) "StepDebts$Part" "fact" "LStepDebts$Fact;") ∈ lw_all := lw_g (lw_at lw_m6 54 rfl) rfl
theorem q1330 : (Jvm.Cond.laysFinal "StepDebts$Part" "StepDebts$Part" "n" "I") ∈ lw_all := lw_g (lw_at lw_m6 55 rfl) rfl
theorem q1331 : (Jvm.Cond.soleField "StepDebts$Part" "n") ∈ lw_all := lw_g (lw_at lw_m6 56 rfl) rfl
theorem q1332 : (Jvm.Cond.laysFinal "StepDebts$Part" "StepDebts$Part" "fact" "LStepDebts$Fact;") ∈ lw_all := lw_g (lw_at lw_m6 57 rfl) rfl
theorem q1333 : (Jvm.Cond.soleField "StepDebts$Part" "fact") ∈ lw_all := lw_g (lw_at lw_m6 58 rfl) rfl
theorem q1334 : (Jvm.Cond.superclass "StepDebts$Part" "java/lang/Object") ∈ lw_all := lw_g (lw_at lw_m6 59 rfl) rfl
theorem q1542 : (Jvm.Cond.instanceMethod ({ cls := "StepDebts$Part", name := "in", desc := "(LStepDebts$Scene;)I" } : Jvm.MethodName)) ∈ lw_all := lw_g (lw_at lw_m7 27 rfl) rfl
theorem q1543 : (Jvm.Cond.selects "StepDebts$Part" ({ cls := "StepDebts$Part", name := "in", desc := "(LStepDebts$Scene;)I" } : Jvm.MethodName) ({ cls := "StepDebts$Part", name := "in", desc := "(LStepDebts$Scene;)I" } : Jvm.MethodName)) ∈ lw_all := lw_g (lw_at lw_m7 28 rfl) rfl
theorem q1544 : (Jvm.Cond.code ({ cls := "StepDebts$Part", name := "in", desc := "(LStepDebts$Scene;)I" } : Jvm.MethodName) prog_11_method_2_code (2 : Nat) (Option.some Jvm.ClassFile.FieldType.int)) ∈ lw_all := lw_g (lw_at lw_m7 29 rfl) rfl
theorem q1545 : (Jvm.Cond.methodLink "StepDebts$Part" (17 : Nat) ({ cls := "StepDebts$Scene", name := "of", desc := "(LStepDebts$Fact;)I" } : Jvm.MethodName)) ∈ lw_all := lw_g (lw_at lw_m7 30 rfl) rfl
theorem q2197 : (Jvm.Cond.castable "StepDebts$Part" "java/lang/Object") ∈ lw_tbl := lw_at lw_m9 202 rfl
theorem in_X19 : ∀ w ∈ wsX190, w ∈ lw_all := lw_in wsX190 [1330, 1332] (by decide +kernel) (by decide +kernel)
/-! StepDebts$Fact -/
set_option maxRecDepth 100000
def RX20 : String := "StepDebts$Fact"
abbrev cX20_of : ByteArray := prog_4_method_4_code
def yX20_of : MethodName := ⟨RX20, "of", "(Ljava/lang/String;)LStepDebts$Fact;"⟩
def dkwX20_of_1 : List UInt8 := [42, 182, 0, 43, 153, 0, 6, 25, 4, 176, 132, 3, 1, 167, 255, 228, 1, 176]
abbrev dktX20_of_1 : List UInt8 := dkwX20_of_1 ++ []
def dkwX20_of_0 : List UInt8 := [184, 0, 39, 76, 43, 190, 61, 3, 62, 29, 28, 162, 0, 29, 43, 29, 50, 58, 4, 25, 4, 180, 0, 35]
abbrev dktX20_of_0 : List UInt8 := dkwX20_of_0 ++ dktX20_of_1
theorem dksX20_of_0 : cX20_of.data.toList.drop 0 = dktX20_of_0 := by decide +kernel
theorem dksX20_of_1 : cX20_of.data.toList.drop 24 = dktX20_of_1 := dk_seg dksX20_of_0 24 rfl rfl
theorem dX20_of_0 : decode cX20_of 0 = .ok (.invokestatic 39, 3) := dk_184 0 39 (dk_at dksX20_of_0 0 rfl rfl)
theorem dX20_of_3 : decode cX20_of 3 = .ok (.astore_n 1, 1) := dk_76 (dk_at dksX20_of_0 3 rfl rfl)
theorem dX20_of_4 : decode cX20_of 4 = .ok (.aload_n 1, 1) := dk_43 (dk_at dksX20_of_0 4 rfl rfl)
theorem dX20_of_5 : decode cX20_of 5 = .ok (.arraylength, 1) := dk_190 (dk_at dksX20_of_0 5 rfl rfl)
theorem dX20_of_6 : decode cX20_of 6 = .ok (.istore_n 2, 1) := dk_61 (dk_at dksX20_of_0 6 rfl rfl)
theorem dX20_of_7 : decode cX20_of 7 = .ok (.iconst 0, 1) := dk_3 (dk_at dksX20_of_0 7 rfl rfl)
theorem dX20_of_8 : decode cX20_of 8 = .ok (.istore_n 3, 1) := dk_62 (dk_at dksX20_of_0 8 rfl rfl)
theorem dX20_of_9 : decode cX20_of 9 = .ok (.iload_n 3, 1) := dk_29 (dk_at dksX20_of_0 9 rfl rfl)
theorem dX20_of_10 : decode cX20_of 10 = .ok (.iload_n 2, 1) := dk_28 (dk_at dksX20_of_0 10 rfl rfl)
theorem dX20_of_11 : decode cX20_of 11 = .ok (.if_icmp .ge 29, 3) := dk_162 0 29 (dk_at dksX20_of_0 11 rfl rfl)
theorem dX20_of_14 : decode cX20_of 14 = .ok (.aload_n 1, 1) := dk_43 (dk_at dksX20_of_0 14 rfl rfl)
theorem dX20_of_15 : decode cX20_of 15 = .ok (.iload_n 3, 1) := dk_29 (dk_at dksX20_of_0 15 rfl rfl)
theorem dX20_of_16 : decode cX20_of 16 = .ok (.aaload, 1) := dk_50 (dk_at dksX20_of_0 16 rfl rfl)
theorem dX20_of_17 : decode cX20_of 17 = .ok (.astore 4, 2) := dk_58 4 (dk_at dksX20_of_0 17 rfl rfl)
theorem dX20_of_19 : decode cX20_of 19 = .ok (.aload 4, 2) := dk_25 4 (dk_at dksX20_of_0 19 rfl rfl)
theorem dX20_of_21 : decode cX20_of 21 = .ok (.getfield 35, 3) := dk_180 0 35 (dk_at dksX20_of_0 21 rfl rfl)
theorem dX20_of_24 : decode cX20_of 24 = .ok (.aload_n 0, 1) := dk_42 (dk_at dksX20_of_1 0 rfl rfl)
theorem dX20_of_25 : decode cX20_of 25 = .ok (.invokevirtual 43, 3) := dk_182 0 43 (dk_at dksX20_of_1 1 rfl rfl)
theorem dX20_of_28 : decode cX20_of 28 = .ok (.ifCond .eq 6, 3) := dk_153 0 6 (dk_at dksX20_of_1 4 rfl rfl)
theorem dX20_of_31 : decode cX20_of 31 = .ok (.aload 4, 2) := dk_25 4 (dk_at dksX20_of_1 7 rfl rfl)
theorem dX20_of_33 : decode cX20_of 33 = .ok (.areturn, 1) := dk_176 (dk_at dksX20_of_1 9 rfl rfl)
theorem dX20_of_34 : decode cX20_of 34 = .ok (.iinc 3 1, 3) := dk_132 3 1 (dk_at dksX20_of_1 10 rfl rfl)
theorem dX20_of_37 : decode cX20_of 37 = .ok (.goto (-28), 3) := dk_167 255 228 (dk_at dksX20_of_1 13 rfl rfl)
theorem dX20_of_40 : decode cX20_of 40 = .ok (.aconst_null, 1) := dk_1 (dk_at dksX20_of_1 16 rfl rfl)
theorem dX20_of_41 : decode cX20_of 41 = .ok (.areturn, 1) := dk_176 (dk_at dksX20_of_1 17 rfl rfl)
abbrev cX20_values : ByteArray := prog_4_method_1_code
def yX20_values : MethodName := ⟨RX20, "values", "()[LStepDebts$Fact;"⟩
def dkwX20_values_0 : List UInt8 := [178, 0, 16, 182, 0, 20, 192, 0, 21, 176]
abbrev dktX20_values_0 : List UInt8 := dkwX20_values_0 ++ []
theorem dksX20_values_0 : cX20_values.data.toList.drop 0 = dktX20_values_0 := by decide +kernel
theorem dX20_values_0 : decode cX20_values 0 = .ok (.getstatic 16, 3) := dk_178 0 16 (dk_at dksX20_values_0 0 rfl rfl)
theorem dX20_values_3 : decode cX20_values 3 = .ok (.invokevirtual 20, 3) := dk_182 0 20 (dk_at dksX20_values_0 3 rfl rfl)
theorem dX20_values_6 : decode cX20_values 6 = .ok (.checkcast 21, 3) := dk_192 0 21 (dk_at dksX20_values_0 6 rfl rfl)
theorem dX20_values_9 : decode cX20_values 9 = .ok (.areturn, 1) := dk_176 (dk_at dksX20_values_0 9 rfl rfl)
theorem q117 : (Jvm.Cond.initialized "StepDebts$Fact") ∈ lw_all := lw_g (lw_at lw_m1 42 rfl) rfl
theorem q497 : (Jvm.Cond.selects "StepDebts$Fact" ({ cls := "java/lang/Object", name := "getClass", desc := "()Ljava/lang/Class;" } : Jvm.MethodName) ({ cls := "java/lang/Object", name := "getClass", desc := "()Ljava/lang/Class;" } : Jvm.MethodName)) ∈ lw_all := lw_g (lw_at lw_m2 182 rfl) rfl
theorem q1336 : (Jvm.Cond.static ({ cls := "StepDebts$Fact", name := "of", desc := "(Ljava/lang/String;)LStepDebts$Fact;" } : Jvm.MethodName)) ∈ lw_all := lw_g (lw_at lw_m6 61 rfl) rfl
theorem q1337 : (Jvm.Cond.code ({ cls := "StepDebts$Fact", name := "of", desc := "(Ljava/lang/String;)LStepDebts$Fact;" } : Jvm.MethodName) prog_4_method_4_code (5 : Nat) (Option.some (Jvm.ClassFile.FieldType.object "StepDebts$Fact"))) ∈ lw_all := lw_g (lw_at lw_m6 62 rfl) rfl
theorem q1338 : (Jvm.Cond.methodLink "StepDebts$Fact" (39 : Nat) ({ cls := "StepDebts$Fact", name := "values", desc := "()[LStepDebts$Fact;" } : Jvm.MethodName)) ∈ lw_all := lw_g (lw_at lw_m6 63 rfl) rfl
theorem q1339 : (Jvm.Cond.static ({ cls := "StepDebts$Fact", name := "values", desc := "()[LStepDebts$Fact;" } : Jvm.MethodName)) ∈ lw_all := lw_g (lw_at lw_m6 64 rfl) rfl
theorem q1340 : (Jvm.Cond.code ({ cls := "StepDebts$Fact", name := "values", desc := "()[LStepDebts$Fact;" } : Jvm.MethodName) prog_4_method_1_code (0 : Nat) (Option.some (Jvm.ClassFile.FieldType.array (Jvm.ClassFile.FieldType.object "StepDebts$Fact")))) ∈ lw_all := lw_g (lw_at lw_m6 65 rfl) rfl
theorem q1341 : (Jvm.Cond.fieldLink "StepDebts$Fact" (16 : Nat) "StepDebts$Fact" "$VALUES" "[LStepDebts$Fact;") ∈ lw_all := lw_g (lw_at lw_m6 66 rfl) rfl
theorem q1342 : (Jvm.Cond.laysStatic "StepDebts$Fact" "$VALUES" "[LStepDebts$Fact;") ∈ lw_tbl := lw_at lw_m6 67 rfl
theorem q1343 : (Jvm.Cond.methodLink "StepDebts$Fact" (20 : Nat) ({ cls := "[LStepDebts$Fact;", name := "clone", desc := "()Ljava/lang/Object;" } : Jvm.MethodName)) ∈ lw_all := lw_g (lw_at lw_m6 68 rfl) rfl
theorem q1348 : (Jvm.Cond.classLink "StepDebts$Fact" (21 : Nat) "[LStepDebts$Fact;") ∈ lw_all := lw_g (lw_at lw_m6 73 rfl) rfl
theorem q1349 : (Jvm.Cond.methodLink "StepDebts$Fact" (43 : Nat) ({ cls := "java/lang/String", name := "equals", desc := "(Ljava/lang/Object;)Z" } : Jvm.MethodName)) ∈ lw_all := lw_g (lw_at lw_m6 74 rfl) rfl
theorem q1550 : (Jvm.Cond.sameMethod "StepDebts$Fact" "java/lang/Enum" "ordinal" "()I") ∈ lw_all := lw_g (lw_at lw_m7 35 rfl) rfl
theorem q1551 : (Jvm.Cond.selects "StepDebts$Fact" ({ cls := "StepDebts$Fact", name := "ordinal", desc := "()I" } : Jvm.MethodName) ({ cls := "java/lang/Enum", name := "ordinal", desc := "()I" } : Jvm.MethodName)) ∈ lw_all := lw_g (lw_at lw_m7 36 rfl) rfl
theorem q2173 : (Jvm.Cond.castable "StepDebts$Fact" "java/lang/Object") ∈ lw_tbl := lw_at lw_m9 178 rfl
theorem q2216 : (Jvm.Cond.fieldLink "StepDebts$Fact" (35 : Nat) "StepDebts$Fact" "told" "Ljava/lang/String;") ∈ lw_all := lw_g (lw_at lw_m9 221 rfl) rfl
theorem q2222 : (Jvm.Cond.laysStatic "StepDebts$Fact" "AGE" "LStepDebts$Fact;") ∈ lw_tbl := lw_at lw_m9 227 rfl
theorem q2223 : (Jvm.Cond.laysStatic "StepDebts$Fact" "WEAR" "LStepDebts$Fact;") ∈ lw_tbl := lw_at lw_m9 228 rfl
theorem q2224 : (Jvm.Cond.laysStatic "StepDebts$Fact" "PACES" "LStepDebts$Fact;") ∈ lw_tbl := lw_at lw_m9 229 rfl
theorem q2225 : (Jvm.Cond.laysStatic "StepDebts$Fact" "DAY" "LStepDebts$Fact;") ∈ lw_tbl := lw_at lw_m9 230 rfl
theorem q2232 : (Jvm.Cond.stringRef "StepDebts$Fact" (50 : Nat) "age") ∈ lw_tbl := lw_at lw_m9 237 rfl
theorem q2233 : (Jvm.Cond.stringRef "StepDebts$Fact" (56 : Nat) "wear") ∈ lw_tbl := lw_at lw_m9 238 rfl
theorem q2234 : (Jvm.Cond.stringRef "StepDebts$Fact" (59 : Nat) "paces") ∈ lw_tbl := lw_at lw_m9 239 rfl
theorem q2235 : (Jvm.Cond.stringRef "StepDebts$Fact" (62 : Nat) "day") ∈ lw_tbl := lw_at lw_m10 0 rfl
/-! StepDebts$Less -/
set_option maxRecDepth 100000
def RX21 : String := "StepDebts$Less"
def TX21 : u_T := fun k => match k with
  | 0 => ("StepDebts$Less", "a", "LStepDebts$Sum;", true)
  | _ => ("StepDebts$Less", "b", "LStepDebts$Sum;", true)
def tyX21 : Nat → FieldType := fun k => match k with
  | 0 => .object "StepDebts$Sum"
  | _ => .object "StepDebts$Sum"
abbrev wsX210 : List Cond := u_ws RX21 TX21 2
theorem nmX21 : ∀ a, a < 2 → ∀ b, b < 2 → a ≠ b → (TX21 a).2.1 ≠ (TX21 b).2.1 := by decide +kernel
theorem tyX21_ok : ∀ k, k < 2 → parseFieldDescriptor (TX21 k).2.2.1 = some (tyX21 k) := by decide +kernel
abbrev cX21_init : ByteArray := prog_7_method_1_code
def yX21_init : MethodName := ⟨RX21, "<init>", "(LStepDebts$Sum;LStepDebts$Sum;)V"⟩
def dkwX21_init_0 : List UInt8 := [42, 183, 0, 1, 42, 43, 181, 0, 7, 42, 44, 181, 0, 13, 177]
abbrev dktX21_init_0 : List UInt8 := dkwX21_init_0 ++ []
theorem dksX21_init_0 : cX21_init.data.toList.drop 0 = dktX21_init_0 := by decide +kernel
theorem dX21_init_0 : decode cX21_init 0 = .ok (.aload_n 0, 1) := dk_42 (dk_at dksX21_init_0 0 rfl rfl)
theorem dX21_init_1 : decode cX21_init 1 = .ok (.invokespecial 1, 3) := dk_183 0 1 (dk_at dksX21_init_0 1 rfl rfl)
theorem dX21_init_4 : decode cX21_init 4 = .ok (.aload_n 0, 1) := dk_42 (dk_at dksX21_init_0 4 rfl rfl)
theorem dX21_init_5 : decode cX21_init 5 = .ok (.aload_n 1, 1) := dk_43 (dk_at dksX21_init_0 5 rfl rfl)
theorem dX21_init_6 : decode cX21_init 6 = .ok (.putfield 7, 3) := dk_181 0 7 (dk_at dksX21_init_0 6 rfl rfl)
theorem dX21_init_9 : decode cX21_init 9 = .ok (.aload_n 0, 1) := dk_42 (dk_at dksX21_init_0 9 rfl rfl)
theorem dX21_init_10 : decode cX21_init 10 = .ok (.aload_n 2, 1) := dk_44 (dk_at dksX21_init_0 10 rfl rfl)
theorem dX21_init_11 : decode cX21_init 11 = .ok (.putfield 13, 3) := dk_181 0 13 (dk_at dksX21_init_0 11 rfl rfl)
theorem dX21_init_14 : decode cX21_init 14 = .ok (.return_, 1) := dk_177 (dk_at dksX21_init_0 14 rfl rfl)
abbrev cX21_holds : ByteArray := prog_7_method_2_code
def yX21_holds : MethodName := ⟨RX21, "holds", "(LStepDebts$Scene;)Z"⟩
def dkwX21_holds_1 : List UInt8 := [172]
abbrev dktX21_holds_1 : List UInt8 := dkwX21_holds_1 ++ []
def dkwX21_holds_0 : List UInt8 := [42, 180, 0, 7, 43, 182, 0, 16, 42, 180, 0, 13, 43, 182, 0, 16, 162, 0, 7, 4, 167, 0, 4, 3]
abbrev dktX21_holds_0 : List UInt8 := dkwX21_holds_0 ++ dktX21_holds_1
theorem dksX21_holds_0 : cX21_holds.data.toList.drop 0 = dktX21_holds_0 := by decide +kernel
theorem dksX21_holds_1 : cX21_holds.data.toList.drop 24 = dktX21_holds_1 := dk_seg dksX21_holds_0 24 rfl rfl
theorem dX21_holds_0 : decode cX21_holds 0 = .ok (.aload_n 0, 1) := dk_42 (dk_at dksX21_holds_0 0 rfl rfl)
theorem dX21_holds_1 : decode cX21_holds 1 = .ok (.getfield 7, 3) := dk_180 0 7 (dk_at dksX21_holds_0 1 rfl rfl)
theorem dX21_holds_4 : decode cX21_holds 4 = .ok (.aload_n 1, 1) := dk_43 (dk_at dksX21_holds_0 4 rfl rfl)
theorem dX21_holds_5 : decode cX21_holds 5 = .ok (.invokevirtual 16, 3) := dk_182 0 16 (dk_at dksX21_holds_0 5 rfl rfl)
theorem dX21_holds_8 : decode cX21_holds 8 = .ok (.aload_n 0, 1) := dk_42 (dk_at dksX21_holds_0 8 rfl rfl)
theorem dX21_holds_9 : decode cX21_holds 9 = .ok (.getfield 13, 3) := dk_180 0 13 (dk_at dksX21_holds_0 9 rfl rfl)
theorem dX21_holds_12 : decode cX21_holds 12 = .ok (.aload_n 1, 1) := dk_43 (dk_at dksX21_holds_0 12 rfl rfl)
theorem dX21_holds_13 : decode cX21_holds 13 = .ok (.invokevirtual 16, 3) := dk_182 0 16 (dk_at dksX21_holds_0 13 rfl rfl)
theorem dX21_holds_16 : decode cX21_holds 16 = .ok (.if_icmp .ge 7, 3) := dk_162 0 7 (dk_at dksX21_holds_0 16 rfl rfl)
theorem dX21_holds_19 : decode cX21_holds 19 = .ok (.iconst 1, 1) := dk_4 (dk_at dksX21_holds_0 19 rfl rfl)
theorem dX21_holds_20 : decode cX21_holds 20 = .ok (.goto 4, 3) := dk_167 0 4 (dk_at dksX21_holds_0 20 rfl rfl)
theorem dX21_holds_23 : decode cX21_holds 23 = .ok (.iconst 0, 1) := dk_3 (dk_at dksX21_holds_0 23 rfl rfl)
theorem dX21_holds_24 : decode cX21_holds 24 = .ok (.ireturn, 1) := dk_172 (dk_at dksX21_holds_1 0 rfl rfl)
theorem q118 : (Jvm.Cond.initialized "StepDebts$Less") ∈ lw_all := lw_g (lw_at lw_m1 43 rfl) rfl
theorem q500 : (Jvm.Cond.selects "StepDebts$Less" ({ cls := "java/lang/Object", name := "getClass", desc := "()Ljava/lang/Class;" } : Jvm.MethodName) ({ cls := "java/lang/Object", name := "getClass", desc := "()Ljava/lang/Class;" } : Jvm.MethodName)) ∈ lw_all := lw_g (lw_at lw_m2 185 rfl) rfl
theorem q1351 : (Jvm.Cond.instantiable "StepDebts$Less" (2 : Nat)) ∈ lw_all := lw_g (lw_at lw_m6 76 rfl) rfl
theorem q1353 : (Jvm.Cond.instanceMethod ({ cls := "StepDebts$Less", name := "<init>", desc := "(LStepDebts$Sum;LStepDebts$Sum;)V" } : Jvm.MethodName)) ∈ lw_all := lw_g (lw_at lw_m6 78 rfl) rfl
theorem q1354 : (Jvm.Cond.code ({ cls := "StepDebts$Less", name := "<init>", desc := "(LStepDebts$Sum;LStepDebts$Sum;)V" } : Jvm.MethodName) prog_7_method_1_code (3 : Nat) (Option.none : Option Jvm.ClassFile.FieldType)) ∈ lw_all := lw_g (lw_at lw_m6 79 rfl) rfl
theorem q1355 : (Jvm.Cond.methodLink "StepDebts$Less" (1 : Nat) ({ cls := "java/lang/Object", name := "<init>", desc := "()V" } : Jvm.MethodName)) ∈ lw_all := lw_g (lw_at lw_m6 80 rfl) rfl
theorem q1356 : (Jvm.Cond.fieldLink "StepDebts$Less" (7 : Nat) "StepDebts$Less" "a" "LStepDebts$Sum;") ∈ lw_all := lw_g (lw_at lw_m6 81 rfl) rfl
theorem q1357 : (Jvm.Cond.fieldLink "StepDebts$Less" (13 : Nat) "StepDebts$Less" "b" "LStepDebts$Sum;") ∈ lw_all := lw_g (lw_at lw_m6 82 rfl) rfl
theorem q1358 : (Jvm.Cond.laysFinal "StepDebts$Less" "StepDebts$Less" "a" "LStepDebts$Sum;") ∈ lw_all := lw_g (lw_at lw_m6 83 rfl) rfl
theorem q1359 : (Jvm.Cond.soleField "StepDebts$Less" "a") ∈ lw_all := lw_g (lw_at lw_m6 84 rfl) rfl
theorem q1360 : (Jvm.Cond.laysFinal "StepDebts$Less" "StepDebts$Less" "b" "LStepDebts$Sum;") ∈ lw_all := lw_g (lw_at lw_m6 85 rfl) rfl
theorem q1361 : (Jvm.Cond.soleField "StepDebts$Less" "b") ∈ lw_all := lw_g (lw_at lw_m6 86 rfl) rfl
theorem q1362 : (Jvm.Cond.superclass "StepDebts$Less" "java/lang/Object") ∈ lw_all := lw_g (lw_at lw_m6 87 rfl) rfl
theorem q1528 : (Jvm.Cond.castable "StepDebts$Less" "StepDebts$Cond") ∈ lw_tbl := lw_at lw_m7 13 rfl
theorem q1529 : (Jvm.Cond.selects "StepDebts$Less" ({ cls := "StepDebts$Cond", name := "holds", desc := "(LStepDebts$Scene;)Z" } : Jvm.MethodName) ({ cls := "StepDebts$Less", name := "holds", desc := "(LStepDebts$Scene;)Z" } : Jvm.MethodName)) ∈ lw_all := lw_g (lw_at lw_m7 14 rfl) rfl
theorem q1530 : (Jvm.Cond.unhidden "StepDebts$Less" "holds" "(LStepDebts$Scene;)Z") ∈ lw_tbl := lw_at lw_m7 15 rfl
theorem q1531 : (Jvm.Cond.instanceMethod ({ cls := "StepDebts$Less", name := "holds", desc := "(LStepDebts$Scene;)Z" } : Jvm.MethodName)) ∈ lw_all := lw_g (lw_at lw_m7 16 rfl) rfl
theorem q1532 : (Jvm.Cond.publicMethod ({ cls := "StepDebts$Less", name := "holds", desc := "(LStepDebts$Scene;)Z" } : Jvm.MethodName)) ∈ lw_tbl := lw_at lw_m7 17 rfl
theorem q1533 : (Jvm.Cond.code ({ cls := "StepDebts$Less", name := "holds", desc := "(LStepDebts$Scene;)Z" } : Jvm.MethodName) prog_7_method_2_code (2 : Nat) (Option.some Jvm.ClassFile.FieldType.boolean)) ∈ lw_all := lw_g (lw_at lw_m7 18 rfl) rfl
theorem q1534 : (Jvm.Cond.methodLink "StepDebts$Less" (16 : Nat) ({ cls := "StepDebts$Sum", name := "in", desc := "(LStepDebts$Scene;)I" } : Jvm.MethodName)) ∈ lw_all := lw_g (lw_at lw_m7 19 rfl) rfl
theorem q2198 : (Jvm.Cond.castable "StepDebts$Less" "java/lang/Object") ∈ lw_tbl := lw_at lw_m9 203 rfl
theorem in_X21 : ∀ w ∈ wsX210, w ∈ lw_all := lw_in wsX210 [1358, 1360] (by decide +kernel) (by decide +kernel)
