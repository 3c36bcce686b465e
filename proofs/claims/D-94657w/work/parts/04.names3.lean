/-! StepDebtsModel -/
set_option maxRecDepth 100000
def RX6 : String := "StepDebtsModel"
def TX6 : u_T := fun k => match k with
  | 0 => ("StepDebtsModel", "thrown", "I", false)
  | 1 => ("StepDebtsModel", "m", "[I", true)
  | 2 => ("StepDebtsModel", "kept", "[I", true)
  | 3 => ("StepDebtsModel", "hasImage", "Z", false)
  | 4 => ("StepDebtsModel", "before", "[I", true)
  | 5 => ("StepDebtsModel", "tape", "[I", true)
  | 6 => ("StepDebtsModel", "taped", "I", false)
  | 7 => ("StepDebtsModel", "base", "I", false)
  | 8 => ("StepDebtsModel", "end", "I", false)
  | 9 => ("StepDebtsModel", "at", "I", false)
  | 10 => ("StepDebtsModel", "fault", "I", false)
  | 11 => ("StepDebtsModel", "deep", "I", false)
  | 12 => ("StepDebtsModel", "fact", "[I", true)
  | 13 => ("StepDebtsModel", "sort", "I", false)
  | 14 => ("StepDebtsModel", "isNight", "Z", false)
  | 15 => ("StepDebtsModel", "isOwn", "Z", false)
  | 16 => ("StepDebtsModel", "says", "I", false)
  | 17 => ("StepDebtsModel", "counted", "[I", true)
  | 18 => ("StepDebtsModel", "six", "I", false)
  | 19 => ("StepDebtsModel", "most", "[I", true)
  | 20 => ("StepDebtsModel", "less", "[I", true)
  | 21 => ("StepDebtsModel", "burnt", "[I", true)
  | 22 => ("StepDebtsModel", "burntMany", "I", false)
  | 23 => ("StepDebtsModel", "ways1", "I", false)
  | _ => ("StepDebtsModel", "others", "I", false)
def tyX6 : Nat → FieldType := fun k => match k with
  | 0 => .int
  | 1 => .array .int
  | 2 => .array .int
  | 3 => .boolean
  | 4 => .array .int
  | 5 => .array .int
  | 6 => .int
  | 7 => .int
  | 8 => .int
  | 9 => .int
  | 10 => .int
  | 11 => .int
  | 12 => .array .int
  | 13 => .int
  | 14 => .boolean
  | 15 => .boolean
  | 16 => .int
  | 17 => .array .int
  | 18 => .int
  | 19 => .array .int
  | 20 => .array .int
  | 21 => .array .int
  | 22 => .int
  | 23 => .int
  | _ => .int
abbrev wsX60 : List Cond := u_ws RX6 TX6 25
set_option maxRecDepth 100000 in
theorem nmX6 : ∀ a, a < 25 → ∀ b, b < 25 → a ≠ b → (TX6 a).2.1 ≠ (TX6 b).2.1 := by decide +kernel
set_option maxRecDepth 100000 in
theorem tyX6_ok : ∀ k, k < 25 → parseFieldDescriptor (TX6 k).2.2.1 = some (tyX6 k) := by decide +kernel
abbrev cX6_init : ByteArray := prog_23_method_1_code
def yX6_init : MethodName := ⟨RX6, "<init>", "()V"⟩
def dkwX6_init_4 : List UInt8 := [79, 42, 180, 0, 7, 16, 9, 4, 79, 42, 180, 0, 7, 16, 10, 2, 79, 177]
abbrev dktX6_init_4 : List UInt8 := dkwX6_init_4 ++ []
def dkwX6_init_3 : List UInt8 := [17, 16, 0, 188, 10, 181, 0, 35, 42, 16, 60, 188, 10, 181, 0, 38, 42, 180, 0, 7, 16, 6, 16, 100]
abbrev dktX6_init_3 : List UInt8 := dkwX6_init_3 ++ dktX6_init_4
def dkwX6_init_2 : List UInt8 := [188, 10, 181, 0, 26, 42, 16, 6, 188, 10, 181, 0, 29, 42, 17, 16, 0, 188, 10, 181, 0, 32, 42]
abbrev dktX6_init_2 : List UInt8 := dkwX6_init_2 ++ dktX6_init_3
def dkwX6_init_1 : List UInt8 := [17, 2, 30, 188, 10, 181, 0, 16, 42, 17, 1, 144, 188, 10, 181, 0, 19, 42, 2, 181, 0, 22, 42, 7]
abbrev dktX6_init_1 : List UInt8 := dkwX6_init_1 ++ dktX6_init_2
def dkwX6_init_0 : List UInt8 := [42, 183, 0, 1, 42, 17, 3, 174, 188, 10, 181, 0, 7, 42, 17, 3, 174, 188, 10, 181, 0, 13, 42]
abbrev dktX6_init_0 : List UInt8 := dkwX6_init_0 ++ dktX6_init_1
theorem dksX6_init_0 : cX6_init.data.toList.drop 0 = dktX6_init_0 := by decide +kernel
theorem dksX6_init_1 : cX6_init.data.toList.drop 23 = dktX6_init_1 := dk_seg dksX6_init_0 23 rfl rfl
theorem dksX6_init_2 : cX6_init.data.toList.drop 47 = dktX6_init_2 := dk_seg dksX6_init_1 24 rfl rfl
theorem dksX6_init_3 : cX6_init.data.toList.drop 70 = dktX6_init_3 := dk_seg dksX6_init_2 23 rfl rfl
theorem dksX6_init_4 : cX6_init.data.toList.drop 94 = dktX6_init_4 := dk_seg dksX6_init_3 24 rfl rfl
theorem dX6_init_0 : decode cX6_init 0 = .ok (.aload_n 0, 1) := dk_42 (dk_at dksX6_init_0 0 rfl rfl)
theorem dX6_init_1 : decode cX6_init 1 = .ok (.invokespecial 1, 3) := dk_183 0 1 (dk_at dksX6_init_0 1 rfl rfl)
theorem dX6_init_4 : decode cX6_init 4 = .ok (.aload_n 0, 1) := dk_42 (dk_at dksX6_init_0 4 rfl rfl)
theorem dX6_init_5 : decode cX6_init 5 = .ok (.sipush 942, 3) := dk_17 3 174 (dk_at dksX6_init_0 5 rfl rfl)
theorem dX6_init_8 : decode cX6_init 8 = .ok (.newarray .int, 2) := dk_188_10 (dk_at dksX6_init_0 8 rfl rfl)
theorem dX6_init_10 : decode cX6_init 10 = .ok (.putfield 7, 3) := dk_181 0 7 (dk_at dksX6_init_0 10 rfl rfl)
theorem dX6_init_13 : decode cX6_init 13 = .ok (.aload_n 0, 1) := dk_42 (dk_at dksX6_init_0 13 rfl rfl)
theorem dX6_init_14 : decode cX6_init 14 = .ok (.sipush 942, 3) := dk_17 3 174 (dk_at dksX6_init_0 14 rfl rfl)
theorem dX6_init_17 : decode cX6_init 17 = .ok (.newarray .int, 2) := dk_188_10 (dk_at dksX6_init_0 17 rfl rfl)
theorem dX6_init_19 : decode cX6_init 19 = .ok (.putfield 13, 3) := dk_181 0 13 (dk_at dksX6_init_0 19 rfl rfl)
theorem dX6_init_22 : decode cX6_init 22 = .ok (.aload_n 0, 1) := dk_42 (dk_at dksX6_init_0 22 rfl rfl)
theorem dX6_init_23 : decode cX6_init 23 = .ok (.sipush 542, 3) := dk_17 2 30 (dk_at dksX6_init_1 0 rfl rfl)
theorem dX6_init_26 : decode cX6_init 26 = .ok (.newarray .int, 2) := dk_188_10 (dk_at dksX6_init_1 3 rfl rfl)
theorem dX6_init_28 : decode cX6_init 28 = .ok (.putfield 16, 3) := dk_181 0 16 (dk_at dksX6_init_1 5 rfl rfl)
theorem dX6_init_31 : decode cX6_init 31 = .ok (.aload_n 0, 1) := dk_42 (dk_at dksX6_init_1 8 rfl rfl)
theorem dX6_init_32 : decode cX6_init 32 = .ok (.sipush 400, 3) := dk_17 1 144 (dk_at dksX6_init_1 9 rfl rfl)
theorem dX6_init_35 : decode cX6_init 35 = .ok (.newarray .int, 2) := dk_188_10 (dk_at dksX6_init_1 12 rfl rfl)
theorem dX6_init_37 : decode cX6_init 37 = .ok (.putfield 19, 3) := dk_181 0 19 (dk_at dksX6_init_1 14 rfl rfl)
theorem dX6_init_40 : decode cX6_init 40 = .ok (.aload_n 0, 1) := dk_42 (dk_at dksX6_init_1 17 rfl rfl)
theorem dX6_init_41 : decode cX6_init 41 = .ok (.iconst (-1), 1) := dk_2 (dk_at dksX6_init_1 18 rfl rfl)
theorem dX6_init_42 : decode cX6_init 42 = .ok (.putfield 22, 3) := dk_181 0 22 (dk_at dksX6_init_1 19 rfl rfl)
theorem dX6_init_45 : decode cX6_init 45 = .ok (.aload_n 0, 1) := dk_42 (dk_at dksX6_init_1 22 rfl rfl)
theorem dX6_init_46 : decode cX6_init 46 = .ok (.iconst 4, 1) := dk_7 (dk_at dksX6_init_1 23 rfl rfl)
theorem dX6_init_47 : decode cX6_init 47 = .ok (.newarray .int, 2) := dk_188_10 (dk_at dksX6_init_2 0 rfl rfl)
theorem dX6_init_49 : decode cX6_init 49 = .ok (.putfield 26, 3) := dk_181 0 26 (dk_at dksX6_init_2 2 rfl rfl)
theorem dX6_init_52 : decode cX6_init 52 = .ok (.aload_n 0, 1) := dk_42 (dk_at dksX6_init_2 5 rfl rfl)
theorem dX6_init_53 : decode cX6_init 53 = .ok (.bipush 6, 2) := dk_16 6 (dk_at dksX6_init_2 6 rfl rfl)
theorem dX6_init_55 : decode cX6_init 55 = .ok (.newarray .int, 2) := dk_188_10 (dk_at dksX6_init_2 8 rfl rfl)
theorem dX6_init_57 : decode cX6_init 57 = .ok (.putfield 29, 3) := dk_181 0 29 (dk_at dksX6_init_2 10 rfl rfl)
theorem dX6_init_60 : decode cX6_init 60 = .ok (.aload_n 0, 1) := dk_42 (dk_at dksX6_init_2 13 rfl rfl)
theorem dX6_init_61 : decode cX6_init 61 = .ok (.sipush 4096, 3) := dk_17 16 0 (dk_at dksX6_init_2 14 rfl rfl)
theorem dX6_init_64 : decode cX6_init 64 = .ok (.newarray .int, 2) := dk_188_10 (dk_at dksX6_init_2 17 rfl rfl)
theorem dX6_init_66 : decode cX6_init 66 = .ok (.putfield 32, 3) := dk_181 0 32 (dk_at dksX6_init_2 19 rfl rfl)
theorem dX6_init_69 : decode cX6_init 69 = .ok (.aload_n 0, 1) := dk_42 (dk_at dksX6_init_2 22 rfl rfl)
theorem dX6_init_70 : decode cX6_init 70 = .ok (.sipush 4096, 3) := dk_17 16 0 (dk_at dksX6_init_3 0 rfl rfl)
theorem dX6_init_73 : decode cX6_init 73 = .ok (.newarray .int, 2) := dk_188_10 (dk_at dksX6_init_3 3 rfl rfl)
theorem dX6_init_75 : decode cX6_init 75 = .ok (.putfield 35, 3) := dk_181 0 35 (dk_at dksX6_init_3 5 rfl rfl)
theorem dX6_init_78 : decode cX6_init 78 = .ok (.aload_n 0, 1) := dk_42 (dk_at dksX6_init_3 8 rfl rfl)
theorem dX6_init_79 : decode cX6_init 79 = .ok (.bipush 60, 2) := dk_16 60 (dk_at dksX6_init_3 9 rfl rfl)
theorem dX6_init_81 : decode cX6_init 81 = .ok (.newarray .int, 2) := dk_188_10 (dk_at dksX6_init_3 11 rfl rfl)
theorem dX6_init_83 : decode cX6_init 83 = .ok (.putfield 38, 3) := dk_181 0 38 (dk_at dksX6_init_3 13 rfl rfl)
theorem dX6_init_86 : decode cX6_init 86 = .ok (.aload_n 0, 1) := dk_42 (dk_at dksX6_init_3 16 rfl rfl)
theorem dX6_init_87 : decode cX6_init 87 = .ok (.getfield 7, 3) := dk_180 0 7 (dk_at dksX6_init_3 17 rfl rfl)
theorem dX6_init_90 : decode cX6_init 90 = .ok (.bipush 6, 2) := dk_16 6 (dk_at dksX6_init_3 20 rfl rfl)
theorem dX6_init_92 : decode cX6_init 92 = .ok (.bipush 100, 2) := dk_16 100 (dk_at dksX6_init_3 22 rfl rfl)
theorem dX6_init_94 : decode cX6_init 94 = .ok (.iastore, 1) := dk_79 (dk_at dksX6_init_4 0 rfl rfl)
theorem dX6_init_95 : decode cX6_init 95 = .ok (.aload_n 0, 1) := dk_42 (dk_at dksX6_init_4 1 rfl rfl)
theorem dX6_init_96 : decode cX6_init 96 = .ok (.getfield 7, 3) := dk_180 0 7 (dk_at dksX6_init_4 2 rfl rfl)
theorem dX6_init_99 : decode cX6_init 99 = .ok (.bipush 9, 2) := dk_16 9 (dk_at dksX6_init_4 5 rfl rfl)
theorem dX6_init_101 : decode cX6_init 101 = .ok (.iconst 1, 1) := dk_4 (dk_at dksX6_init_4 7 rfl rfl)
theorem dX6_init_102 : decode cX6_init 102 = .ok (.iastore, 1) := dk_79 (dk_at dksX6_init_4 8 rfl rfl)
theorem dX6_init_103 : decode cX6_init 103 = .ok (.aload_n 0, 1) := dk_42 (dk_at dksX6_init_4 9 rfl rfl)
theorem dX6_init_104 : decode cX6_init 104 = .ok (.getfield 7, 3) := dk_180 0 7 (dk_at dksX6_init_4 10 rfl rfl)
theorem dX6_init_107 : decode cX6_init 107 = .ok (.bipush 10, 2) := dk_16 10 (dk_at dksX6_init_4 13 rfl rfl)
theorem dX6_init_109 : decode cX6_init 109 = .ok (.iconst (-1), 1) := dk_2 (dk_at dksX6_init_4 15 rfl rfl)
theorem dX6_init_110 : decode cX6_init 110 = .ok (.iastore, 1) := dk_79 (dk_at dksX6_init_4 16 rfl rfl)
theorem dX6_init_111 : decode cX6_init 111 = .ok (.return_, 1) := dk_177 (dk_at dksX6_init_4 17 rfl rfl)
abbrev cX6_thrown : ByteArray := prog_23_method_2_code
def yX6_thrown : MethodName := ⟨RX6, "thrown", "()I"⟩
theorem dX6_thrown_0 : decode cX6_thrown 0 = .ok (.aload_n 0, 1) := by decide +kernel
theorem dX6_thrown_1 : decode cX6_thrown 1 = .ok (.getfield 41, 3) := by decide +kernel
theorem dX6_thrown_4 : decode cX6_thrown 4 = .ok (.ireturn, 1) := by decide +kernel
abbrev cX6_feed : ByteArray := prog_23_method_10_code
def yX6_feed : MethodName := ⟨RX6, "feed", "(IIIII)I"⟩
def dkwX6_feed_5 : List UInt8 := [167, 255, 162, 42, 180, 0, 48, 172]
abbrev dktX6_feed_5 : List UInt8 := dkwX6_feed_5 ++ []
def dkwX6_feed_4 : List UInt8 := [112, 104, 100, 124, 17, 0, 255, 126, 79, 42, 89, 180, 0, 48, 4, 96, 181, 0, 48, 132, 6, 1]
abbrev dktX6_feed_4 : List UInt8 := dkwX6_feed_4 ++ dktX6_feed_5
def dkwX6_feed_3 : List UInt8 := [167, 0, 5, 21, 5, 54, 7, 42, 180, 0, 19, 42, 180, 0, 48, 21, 7, 16, 24, 16, 8, 21, 6, 7]
abbrev dktX6_feed_3 : List UInt8 := dkwX6_feed_3 ++ dktX6_feed_4
def dkwX6_feed_2 : List UInt8 := [28, 167, 0, 28, 21, 6, 16, 12, 162, 0, 7, 29, 167, 0, 17, 21, 6, 16, 16, 162, 0, 8, 21, 4]
abbrev dktX6_feed_2 : List UInt8 := dkwX6_feed_2 ++ dktX6_feed_3
def dkwX6_feed_1 : List UInt8 := [21, 6, 16, 20, 162, 0, 93, 21, 6, 7, 162, 0, 7, 27, 167, 0, 39, 21, 6, 16, 8, 162, 0, 7]
abbrev dktX6_feed_1 : List UInt8 := dkwX6_feed_1 ++ dktX6_feed_2
def dkwX6_feed_0 : List UInt8 := [42, 3, 181, 0, 41, 42, 180, 0, 48, 16, 20, 96, 17, 1, 144, 164, 0, 5, 2, 172, 3, 54, 6]
abbrev dktX6_feed_0 : List UInt8 := dkwX6_feed_0 ++ dktX6_feed_1
theorem dksX6_feed_0 : cX6_feed.data.toList.drop 0 = dktX6_feed_0 := by decide +kernel
theorem dksX6_feed_1 : cX6_feed.data.toList.drop 23 = dktX6_feed_1 := dk_seg dksX6_feed_0 23 rfl rfl
theorem dksX6_feed_2 : cX6_feed.data.toList.drop 47 = dktX6_feed_2 := dk_seg dksX6_feed_1 24 rfl rfl
theorem dksX6_feed_3 : cX6_feed.data.toList.drop 71 = dktX6_feed_3 := dk_seg dksX6_feed_2 24 rfl rfl
theorem dksX6_feed_4 : cX6_feed.data.toList.drop 95 = dktX6_feed_4 := dk_seg dksX6_feed_3 24 rfl rfl
theorem dksX6_feed_5 : cX6_feed.data.toList.drop 117 = dktX6_feed_5 := dk_seg dksX6_feed_4 22 rfl rfl
theorem dX6_feed_0 : decode cX6_feed 0 = .ok (.aload_n 0, 1) := dk_42 (dk_at dksX6_feed_0 0 rfl rfl)
theorem dX6_feed_1 : decode cX6_feed 1 = .ok (.iconst 0, 1) := dk_3 (dk_at dksX6_feed_0 1 rfl rfl)
theorem dX6_feed_2 : decode cX6_feed 2 = .ok (.putfield 41, 3) := dk_181 0 41 (dk_at dksX6_feed_0 2 rfl rfl)
theorem dX6_feed_5 : decode cX6_feed 5 = .ok (.aload_n 0, 1) := dk_42 (dk_at dksX6_feed_0 5 rfl rfl)
theorem dX6_feed_6 : decode cX6_feed 6 = .ok (.getfield 48, 3) := dk_180 0 48 (dk_at dksX6_feed_0 6 rfl rfl)
theorem dX6_feed_9 : decode cX6_feed 9 = .ok (.bipush 20, 2) := dk_16 20 (dk_at dksX6_feed_0 9 rfl rfl)
theorem dX6_feed_11 : decode cX6_feed 11 = .ok (.iadd, 1) := dk_96 (dk_at dksX6_feed_0 11 rfl rfl)
theorem dX6_feed_12 : decode cX6_feed 12 = .ok (.sipush 400, 3) := dk_17 1 144 (dk_at dksX6_feed_0 12 rfl rfl)
theorem dX6_feed_15 : decode cX6_feed 15 = .ok (.if_icmp .le 5, 3) := dk_164 0 5 (dk_at dksX6_feed_0 15 rfl rfl)
theorem dX6_feed_18 : decode cX6_feed 18 = .ok (.iconst (-1), 1) := dk_2 (dk_at dksX6_feed_0 18 rfl rfl)
theorem dX6_feed_19 : decode cX6_feed 19 = .ok (.ireturn, 1) := dk_172 (dk_at dksX6_feed_0 19 rfl rfl)
theorem dX6_feed_20 : decode cX6_feed 20 = .ok (.iconst 0, 1) := dk_3 (dk_at dksX6_feed_0 20 rfl rfl)
theorem dX6_feed_21 : decode cX6_feed 21 = .ok (.istore 6, 2) := dk_54 6 (dk_at dksX6_feed_0 21 rfl rfl)
theorem dX6_feed_23 : decode cX6_feed 23 = .ok (.iload 6, 2) := dk_21 6 (dk_at dksX6_feed_1 0 rfl rfl)
theorem dX6_feed_25 : decode cX6_feed 25 = .ok (.bipush 20, 2) := dk_16 20 (dk_at dksX6_feed_1 2 rfl rfl)
theorem dX6_feed_27 : decode cX6_feed 27 = .ok (.if_icmp .ge 93, 3) := dk_162 0 93 (dk_at dksX6_feed_1 4 rfl rfl)
theorem dX6_feed_30 : decode cX6_feed 30 = .ok (.iload 6, 2) := dk_21 6 (dk_at dksX6_feed_1 7 rfl rfl)
theorem dX6_feed_32 : decode cX6_feed 32 = .ok (.iconst 4, 1) := dk_7 (dk_at dksX6_feed_1 9 rfl rfl)
theorem dX6_feed_33 : decode cX6_feed 33 = .ok (.if_icmp .ge 7, 3) := dk_162 0 7 (dk_at dksX6_feed_1 10 rfl rfl)
theorem dX6_feed_36 : decode cX6_feed 36 = .ok (.iload_n 1, 1) := dk_27 (dk_at dksX6_feed_1 13 rfl rfl)
theorem dX6_feed_37 : decode cX6_feed 37 = .ok (.goto 39, 3) := dk_167 0 39 (dk_at dksX6_feed_1 14 rfl rfl)
theorem dX6_feed_40 : decode cX6_feed 40 = .ok (.iload 6, 2) := dk_21 6 (dk_at dksX6_feed_1 17 rfl rfl)
theorem dX6_feed_42 : decode cX6_feed 42 = .ok (.bipush 8, 2) := dk_16 8 (dk_at dksX6_feed_1 19 rfl rfl)
theorem dX6_feed_44 : decode cX6_feed 44 = .ok (.if_icmp .ge 7, 3) := dk_162 0 7 (dk_at dksX6_feed_1 21 rfl rfl)
theorem dX6_feed_47 : decode cX6_feed 47 = .ok (.iload_n 2, 1) := dk_28 (dk_at dksX6_feed_2 0 rfl rfl)
theorem dX6_feed_48 : decode cX6_feed 48 = .ok (.goto 28, 3) := dk_167 0 28 (dk_at dksX6_feed_2 1 rfl rfl)
theorem dX6_feed_51 : decode cX6_feed 51 = .ok (.iload 6, 2) := dk_21 6 (dk_at dksX6_feed_2 4 rfl rfl)
theorem dX6_feed_53 : decode cX6_feed 53 = .ok (.bipush 12, 2) := dk_16 12 (dk_at dksX6_feed_2 6 rfl rfl)
theorem dX6_feed_55 : decode cX6_feed 55 = .ok (.if_icmp .ge 7, 3) := dk_162 0 7 (dk_at dksX6_feed_2 8 rfl rfl)
theorem dX6_feed_58 : decode cX6_feed 58 = .ok (.iload_n 3, 1) := dk_29 (dk_at dksX6_feed_2 11 rfl rfl)
theorem dX6_feed_59 : decode cX6_feed 59 = .ok (.goto 17, 3) := dk_167 0 17 (dk_at dksX6_feed_2 12 rfl rfl)
theorem dX6_feed_62 : decode cX6_feed 62 = .ok (.iload 6, 2) := dk_21 6 (dk_at dksX6_feed_2 15 rfl rfl)
theorem dX6_feed_64 : decode cX6_feed 64 = .ok (.bipush 16, 2) := dk_16 16 (dk_at dksX6_feed_2 17 rfl rfl)
theorem dX6_feed_66 : decode cX6_feed 66 = .ok (.if_icmp .ge 8, 3) := dk_162 0 8 (dk_at dksX6_feed_2 19 rfl rfl)
theorem dX6_feed_69 : decode cX6_feed 69 = .ok (.iload 4, 2) := dk_21 4 (dk_at dksX6_feed_2 22 rfl rfl)
theorem dX6_feed_71 : decode cX6_feed 71 = .ok (.goto 5, 3) := dk_167 0 5 (dk_at dksX6_feed_3 0 rfl rfl)
theorem dX6_feed_74 : decode cX6_feed 74 = .ok (.iload 5, 2) := dk_21 5 (dk_at dksX6_feed_3 3 rfl rfl)
theorem dX6_feed_76 : decode cX6_feed 76 = .ok (.istore 7, 2) := dk_54 7 (dk_at dksX6_feed_3 5 rfl rfl)
theorem dX6_feed_78 : decode cX6_feed 78 = .ok (.aload_n 0, 1) := dk_42 (dk_at dksX6_feed_3 7 rfl rfl)
theorem dX6_feed_79 : decode cX6_feed 79 = .ok (.getfield 19, 3) := dk_180 0 19 (dk_at dksX6_feed_3 8 rfl rfl)
theorem dX6_feed_82 : decode cX6_feed 82 = .ok (.aload_n 0, 1) := dk_42 (dk_at dksX6_feed_3 11 rfl rfl)
theorem dX6_feed_83 : decode cX6_feed 83 = .ok (.getfield 48, 3) := dk_180 0 48 (dk_at dksX6_feed_3 12 rfl rfl)
theorem dX6_feed_86 : decode cX6_feed 86 = .ok (.iload 7, 2) := dk_21 7 (dk_at dksX6_feed_3 15 rfl rfl)
theorem dX6_feed_88 : decode cX6_feed 88 = .ok (.bipush 24, 2) := dk_16 24 (dk_at dksX6_feed_3 17 rfl rfl)
theorem dX6_feed_90 : decode cX6_feed 90 = .ok (.bipush 8, 2) := dk_16 8 (dk_at dksX6_feed_3 19 rfl rfl)
theorem dX6_feed_92 : decode cX6_feed 92 = .ok (.iload 6, 2) := dk_21 6 (dk_at dksX6_feed_3 21 rfl rfl)
theorem dX6_feed_94 : decode cX6_feed 94 = .ok (.iconst 4, 1) := dk_7 (dk_at dksX6_feed_3 23 rfl rfl)
theorem dX6_feed_95 : decode cX6_feed 95 = .ok (.irem, 1) := dk_112 (dk_at dksX6_feed_4 0 rfl rfl)
theorem dX6_feed_96 : decode cX6_feed 96 = .ok (.imul, 1) := dk_104 (dk_at dksX6_feed_4 1 rfl rfl)
theorem dX6_feed_97 : decode cX6_feed 97 = .ok (.isub, 1) := dk_100 (dk_at dksX6_feed_4 2 rfl rfl)
theorem dX6_feed_98 : decode cX6_feed 98 = .ok (.iushr, 1) := dk_124 (dk_at dksX6_feed_4 3 rfl rfl)
theorem dX6_feed_99 : decode cX6_feed 99 = .ok (.sipush 255, 3) := dk_17 0 255 (dk_at dksX6_feed_4 4 rfl rfl)
theorem dX6_feed_102 : decode cX6_feed 102 = .ok (.iand, 1) := dk_126 (dk_at dksX6_feed_4 7 rfl rfl)
theorem dX6_feed_103 : decode cX6_feed 103 = .ok (.iastore, 1) := dk_79 (dk_at dksX6_feed_4 8 rfl rfl)
theorem dX6_feed_104 : decode cX6_feed 104 = .ok (.aload_n 0, 1) := dk_42 (dk_at dksX6_feed_4 9 rfl rfl)
theorem dX6_feed_105 : decode cX6_feed 105 = .ok (.dup, 1) := dk_89 (dk_at dksX6_feed_4 10 rfl rfl)
theorem dX6_feed_106 : decode cX6_feed 106 = .ok (.getfield 48, 3) := dk_180 0 48 (dk_at dksX6_feed_4 11 rfl rfl)
theorem dX6_feed_109 : decode cX6_feed 109 = .ok (.iconst 1, 1) := dk_4 (dk_at dksX6_feed_4 14 rfl rfl)
theorem dX6_feed_110 : decode cX6_feed 110 = .ok (.iadd, 1) := dk_96 (dk_at dksX6_feed_4 15 rfl rfl)
theorem dX6_feed_111 : decode cX6_feed 111 = .ok (.putfield 48, 3) := dk_181 0 48 (dk_at dksX6_feed_4 16 rfl rfl)
theorem dX6_feed_114 : decode cX6_feed 114 = .ok (.iinc 6 1, 3) := dk_132 6 1 (dk_at dksX6_feed_4 19 rfl rfl)
theorem dX6_feed_117 : decode cX6_feed 117 = .ok (.goto (-94), 3) := dk_167 255 162 (dk_at dksX6_feed_5 0 rfl rfl)
theorem dX6_feed_120 : decode cX6_feed 120 = .ok (.aload_n 0, 1) := dk_42 (dk_at dksX6_feed_5 3 rfl rfl)
theorem dX6_feed_121 : decode cX6_feed 121 = .ok (.getfield 48, 3) := dk_180 0 48 (dk_at dksX6_feed_5 4 rfl rfl)
theorem dX6_feed_124 : decode cX6_feed 124 = .ok (.ireturn, 1) := dk_172 (dk_at dksX6_feed_5 7 rfl rfl)
abbrev cX6_end : ByteArray := prog_23_method_11_code
def yX6_end : MethodName := ⟨RX6, "end", "(I)Z"⟩
def dkwX6_end_1 : List UInt8 := [4, 172]
abbrev dktX6_end_1 : List UInt8 := dkwX6_end_1 ++ []
def dkwX6_end_0 : List UInt8 := [42, 3, 181, 0, 41, 27, 3, 42, 180, 0, 48, 184, 0, 44, 154, 0, 5, 3, 172, 42, 27, 181, 0, 48]
abbrev dktX6_end_0 : List UInt8 := dkwX6_end_0 ++ dktX6_end_1
theorem dksX6_end_0 : cX6_end.data.toList.drop 0 = dktX6_end_0 := by decide +kernel
theorem dksX6_end_1 : cX6_end.data.toList.drop 24 = dktX6_end_1 := dk_seg dksX6_end_0 24 rfl rfl
theorem dX6_end_0 : decode cX6_end 0 = .ok (.aload_n 0, 1) := dk_42 (dk_at dksX6_end_0 0 rfl rfl)
theorem dX6_end_1 : decode cX6_end 1 = .ok (.iconst 0, 1) := dk_3 (dk_at dksX6_end_0 1 rfl rfl)
theorem dX6_end_2 : decode cX6_end 2 = .ok (.putfield 41, 3) := dk_181 0 41 (dk_at dksX6_end_0 2 rfl rfl)
theorem dX6_end_5 : decode cX6_end 5 = .ok (.iload_n 1, 1) := dk_27 (dk_at dksX6_end_0 5 rfl rfl)
theorem dX6_end_6 : decode cX6_end 6 = .ok (.iconst 0, 1) := dk_3 (dk_at dksX6_end_0 6 rfl rfl)
theorem dX6_end_7 : decode cX6_end 7 = .ok (.aload_n 0, 1) := dk_42 (dk_at dksX6_end_0 7 rfl rfl)
theorem dX6_end_8 : decode cX6_end 8 = .ok (.getfield 48, 3) := dk_180 0 48 (dk_at dksX6_end_0 8 rfl rfl)
theorem dX6_end_11 : decode cX6_end 11 = .ok (.invokestatic 44, 3) := dk_184 0 44 (dk_at dksX6_end_0 11 rfl rfl)
theorem dX6_end_14 : decode cX6_end 14 = .ok (.ifCond .ne 5, 3) := dk_154 0 5 (dk_at dksX6_end_0 14 rfl rfl)
theorem dX6_end_17 : decode cX6_end 17 = .ok (.iconst 0, 1) := dk_3 (dk_at dksX6_end_0 17 rfl rfl)
theorem dX6_end_18 : decode cX6_end 18 = .ok (.ireturn, 1) := dk_172 (dk_at dksX6_end_0 18 rfl rfl)
theorem dX6_end_19 : decode cX6_end 19 = .ok (.aload_n 0, 1) := dk_42 (dk_at dksX6_end_0 19 rfl rfl)
theorem dX6_end_20 : decode cX6_end 20 = .ok (.iload_n 1, 1) := dk_27 (dk_at dksX6_end_0 20 rfl rfl)
theorem dX6_end_21 : decode cX6_end 21 = .ok (.putfield 48, 3) := dk_181 0 48 (dk_at dksX6_end_0 21 rfl rfl)
theorem dX6_end_24 : decode cX6_end 24 = .ok (.iconst 1, 1) := dk_4 (dk_at dksX6_end_1 0 rfl rfl)
theorem dX6_end_25 : decode cX6_end 25 = .ok (.ireturn, 1) := dk_172 (dk_at dksX6_end_1 1 rfl rfl)
abbrev cX6_isIn : ByteArray := prog_23_method_3_code
def yX6_isIn : MethodName := ⟨RX6, "isIn", "(III)Z"⟩
def dkwX6_isIn_0 : List UInt8 := [26, 27, 161, 0, 12, 26, 28, 163, 0, 7, 4, 167, 0, 4, 3, 172]
abbrev dktX6_isIn_0 : List UInt8 := dkwX6_isIn_0 ++ []
theorem dksX6_isIn_0 : cX6_isIn.data.toList.drop 0 = dktX6_isIn_0 := by decide +kernel
theorem dX6_isIn_0 : decode cX6_isIn 0 = .ok (.iload_n 0, 1) := dk_26 (dk_at dksX6_isIn_0 0 rfl rfl)
theorem dX6_isIn_1 : decode cX6_isIn 1 = .ok (.iload_n 1, 1) := dk_27 (dk_at dksX6_isIn_0 1 rfl rfl)
theorem dX6_isIn_2 : decode cX6_isIn 2 = .ok (.if_icmp .lt 12, 3) := dk_161 0 12 (dk_at dksX6_isIn_0 2 rfl rfl)
theorem dX6_isIn_5 : decode cX6_isIn 5 = .ok (.iload_n 0, 1) := dk_26 (dk_at dksX6_isIn_0 5 rfl rfl)
theorem dX6_isIn_6 : decode cX6_isIn 6 = .ok (.iload_n 2, 1) := dk_28 (dk_at dksX6_isIn_0 6 rfl rfl)
theorem dX6_isIn_7 : decode cX6_isIn 7 = .ok (.if_icmp .gt 7, 3) := dk_163 0 7 (dk_at dksX6_isIn_0 7 rfl rfl)
theorem dX6_isIn_10 : decode cX6_isIn 10 = .ok (.iconst 1, 1) := dk_4 (dk_at dksX6_isIn_0 10 rfl rfl)
theorem dX6_isIn_11 : decode cX6_isIn 11 = .ok (.goto 4, 3) := dk_167 0 4 (dk_at dksX6_isIn_0 11 rfl rfl)
theorem dX6_isIn_14 : decode cX6_isIn 14 = .ok (.iconst 0, 1) := dk_3 (dk_at dksX6_isIn_0 14 rfl rfl)
theorem dX6_isIn_15 : decode cX6_isIn 15 = .ok (.ireturn, 1) := dk_172 (dk_at dksX6_isIn_0 15 rfl rfl)
abbrev cX6_people : ByteArray := prog_23_method_23_code
def yX6_people : MethodName := ⟨RX6, "people", "()I"⟩
def dkwX6_people_5 : List UInt8 := [180, 0, 7, 3, 46, 172]
abbrev dktX6_people_5 : List UInt8 := dkwX6_people_5 ++ []
def dkwX6_people_4 : List UInt8 := [27, 46, 79, 132, 1, 1, 167, 255, 234, 3, 172, 42, 180, 0, 7, 3, 92, 46, 4, 96, 79, 42]
abbrev dktX6_people_4 : List UInt8 := dkwX6_people_4 ++ dktX6_people_5
def dkwX6_people_3 : List UInt8 := [180, 0, 41, 158, 0, 32, 3, 60, 27, 17, 2, 30, 162, 0, 21, 42, 180, 0, 7, 27, 42, 180, 0, 16]
abbrev dktX6_people_3 : List UInt8 := dkwX6_people_3 ++ dktX6_people_4
def dkwX6_people_2 : List UInt8 := [167, 0, 19, 42, 180, 0, 7, 3, 46, 16, 10, 160, 0, 7, 5, 167, 0, 4, 3, 181, 0, 41, 42]
abbrev dktX6_people_2 : List UInt8 := dkwX6_people_2 ++ dktX6_people_3
def dkwX6_people_1 : List UInt8 := [167, 255, 234, 42, 182, 0, 135, 42, 3, 182, 0, 138, 87, 42, 42, 180, 0, 22, 2, 159, 0, 7, 4]
abbrev dktX6_people_1 : List UInt8 := dkwX6_people_1 ++ dktX6_people_2
def dkwX6_people_0 : List UInt8 := [3, 60, 27, 17, 2, 30, 162, 0, 21, 42, 180, 0, 16, 27, 42, 180, 0, 7, 27, 46, 79, 132, 1, 1]
abbrev dktX6_people_0 : List UInt8 := dkwX6_people_0 ++ dktX6_people_1
theorem dksX6_people_0 : cX6_people.data.toList.drop 0 = dktX6_people_0 := by decide +kernel
theorem dksX6_people_1 : cX6_people.data.toList.drop 24 = dktX6_people_1 := dk_seg dksX6_people_0 24 rfl rfl
theorem dksX6_people_2 : cX6_people.data.toList.drop 47 = dktX6_people_2 := dk_seg dksX6_people_1 23 rfl rfl
theorem dksX6_people_3 : cX6_people.data.toList.drop 70 = dktX6_people_3 := dk_seg dksX6_people_2 23 rfl rfl
theorem dksX6_people_4 : cX6_people.data.toList.drop 94 = dktX6_people_4 := dk_seg dksX6_people_3 24 rfl rfl
theorem dksX6_people_5 : cX6_people.data.toList.drop 116 = dktX6_people_5 := dk_seg dksX6_people_4 22 rfl rfl
theorem dX6_people_0 : decode cX6_people 0 = .ok (.iconst 0, 1) := dk_3 (dk_at dksX6_people_0 0 rfl rfl)
theorem dX6_people_1 : decode cX6_people 1 = .ok (.istore_n 1, 1) := dk_60 (dk_at dksX6_people_0 1 rfl rfl)
theorem dX6_people_2 : decode cX6_people 2 = .ok (.iload_n 1, 1) := dk_27 (dk_at dksX6_people_0 2 rfl rfl)
theorem dX6_people_3 : decode cX6_people 3 = .ok (.sipush 542, 3) := dk_17 2 30 (dk_at dksX6_people_0 3 rfl rfl)
theorem dX6_people_6 : decode cX6_people 6 = .ok (.if_icmp .ge 21, 3) := dk_162 0 21 (dk_at dksX6_people_0 6 rfl rfl)
theorem dX6_people_9 : decode cX6_people 9 = .ok (.aload_n 0, 1) := dk_42 (dk_at dksX6_people_0 9 rfl rfl)
theorem dX6_people_10 : decode cX6_people 10 = .ok (.getfield 16, 3) := dk_180 0 16 (dk_at dksX6_people_0 10 rfl rfl)
theorem dX6_people_13 : decode cX6_people 13 = .ok (.iload_n 1, 1) := dk_27 (dk_at dksX6_people_0 13 rfl rfl)
theorem dX6_people_14 : decode cX6_people 14 = .ok (.aload_n 0, 1) := dk_42 (dk_at dksX6_people_0 14 rfl rfl)
theorem dX6_people_15 : decode cX6_people 15 = .ok (.getfield 7, 3) := dk_180 0 7 (dk_at dksX6_people_0 15 rfl rfl)
theorem dX6_people_18 : decode cX6_people 18 = .ok (.iload_n 1, 1) := dk_27 (dk_at dksX6_people_0 18 rfl rfl)
theorem dX6_people_19 : decode cX6_people 19 = .ok (.iaload, 1) := dk_46 (dk_at dksX6_people_0 19 rfl rfl)
theorem dX6_people_20 : decode cX6_people 20 = .ok (.iastore, 1) := dk_79 (dk_at dksX6_people_0 20 rfl rfl)
theorem dX6_people_21 : decode cX6_people 21 = .ok (.iinc 1 1, 3) := dk_132 1 1 (dk_at dksX6_people_0 21 rfl rfl)
theorem dX6_people_24 : decode cX6_people 24 = .ok (.goto (-22), 3) := dk_167 255 234 (dk_at dksX6_people_1 0 rfl rfl)
theorem dX6_people_27 : decode cX6_people 27 = .ok (.aload_n 0, 1) := dk_42 (dk_at dksX6_people_1 3 rfl rfl)
theorem dX6_people_28 : decode cX6_people 28 = .ok (.invokevirtual 135, 3) := dk_182 0 135 (dk_at dksX6_people_1 4 rfl rfl)
theorem dX6_people_31 : decode cX6_people 31 = .ok (.aload_n 0, 1) := dk_42 (dk_at dksX6_people_1 7 rfl rfl)
theorem dX6_people_32 : decode cX6_people 32 = .ok (.iconst 0, 1) := dk_3 (dk_at dksX6_people_1 8 rfl rfl)
theorem dX6_people_33 : decode cX6_people 33 = .ok (.invokevirtual 138, 3) := dk_182 0 138 (dk_at dksX6_people_1 9 rfl rfl)
theorem dX6_people_36 : decode cX6_people 36 = .ok (.pop, 1) := dk_87 (dk_at dksX6_people_1 12 rfl rfl)
theorem dX6_people_37 : decode cX6_people 37 = .ok (.aload_n 0, 1) := dk_42 (dk_at dksX6_people_1 13 rfl rfl)
theorem dX6_people_38 : decode cX6_people 38 = .ok (.aload_n 0, 1) := dk_42 (dk_at dksX6_people_1 14 rfl rfl)
theorem dX6_people_39 : decode cX6_people 39 = .ok (.getfield 22, 3) := dk_180 0 22 (dk_at dksX6_people_1 15 rfl rfl)
theorem dX6_people_42 : decode cX6_people 42 = .ok (.iconst (-1), 1) := dk_2 (dk_at dksX6_people_1 18 rfl rfl)
theorem dX6_people_43 : decode cX6_people 43 = .ok (.if_icmp .eq 7, 3) := dk_159 0 7 (dk_at dksX6_people_1 19 rfl rfl)
theorem dX6_people_46 : decode cX6_people 46 = .ok (.iconst 1, 1) := dk_4 (dk_at dksX6_people_1 22 rfl rfl)
theorem dX6_people_47 : decode cX6_people 47 = .ok (.goto 19, 3) := dk_167 0 19 (dk_at dksX6_people_2 0 rfl rfl)
theorem dX6_people_50 : decode cX6_people 50 = .ok (.aload_n 0, 1) := dk_42 (dk_at dksX6_people_2 3 rfl rfl)
theorem dX6_people_51 : decode cX6_people 51 = .ok (.getfield 7, 3) := dk_180 0 7 (dk_at dksX6_people_2 4 rfl rfl)
theorem dX6_people_54 : decode cX6_people 54 = .ok (.iconst 0, 1) := dk_3 (dk_at dksX6_people_2 7 rfl rfl)
theorem dX6_people_55 : decode cX6_people 55 = .ok (.iaload, 1) := dk_46 (dk_at dksX6_people_2 8 rfl rfl)
theorem dX6_people_56 : decode cX6_people 56 = .ok (.bipush 10, 2) := dk_16 10 (dk_at dksX6_people_2 9 rfl rfl)
theorem dX6_people_58 : decode cX6_people 58 = .ok (.if_icmp .ne 7, 3) := dk_160 0 7 (dk_at dksX6_people_2 11 rfl rfl)
theorem dX6_people_61 : decode cX6_people 61 = .ok (.iconst 2, 1) := dk_5 (dk_at dksX6_people_2 14 rfl rfl)
theorem dX6_people_62 : decode cX6_people 62 = .ok (.goto 4, 3) := dk_167 0 4 (dk_at dksX6_people_2 15 rfl rfl)
theorem dX6_people_65 : decode cX6_people 65 = .ok (.iconst 0, 1) := dk_3 (dk_at dksX6_people_2 18 rfl rfl)
theorem dX6_people_66 : decode cX6_people 66 = .ok (.putfield 41, 3) := dk_181 0 41 (dk_at dksX6_people_2 19 rfl rfl)
theorem dX6_people_69 : decode cX6_people 69 = .ok (.aload_n 0, 1) := dk_42 (dk_at dksX6_people_2 22 rfl rfl)
theorem dX6_people_70 : decode cX6_people 70 = .ok (.getfield 41, 3) := dk_180 0 41 (dk_at dksX6_people_3 0 rfl rfl)
theorem dX6_people_73 : decode cX6_people 73 = .ok (.ifCond .le 32, 3) := dk_158 0 32 (dk_at dksX6_people_3 3 rfl rfl)
theorem dX6_people_76 : decode cX6_people 76 = .ok (.iconst 0, 1) := dk_3 (dk_at dksX6_people_3 6 rfl rfl)
theorem dX6_people_77 : decode cX6_people 77 = .ok (.istore_n 1, 1) := dk_60 (dk_at dksX6_people_3 7 rfl rfl)
theorem dX6_people_78 : decode cX6_people 78 = .ok (.iload_n 1, 1) := dk_27 (dk_at dksX6_people_3 8 rfl rfl)
theorem dX6_people_79 : decode cX6_people 79 = .ok (.sipush 542, 3) := dk_17 2 30 (dk_at dksX6_people_3 9 rfl rfl)
theorem dX6_people_82 : decode cX6_people 82 = .ok (.if_icmp .ge 21, 3) := dk_162 0 21 (dk_at dksX6_people_3 12 rfl rfl)
theorem dX6_people_85 : decode cX6_people 85 = .ok (.aload_n 0, 1) := dk_42 (dk_at dksX6_people_3 15 rfl rfl)
theorem dX6_people_86 : decode cX6_people 86 = .ok (.getfield 7, 3) := dk_180 0 7 (dk_at dksX6_people_3 16 rfl rfl)
theorem dX6_people_89 : decode cX6_people 89 = .ok (.iload_n 1, 1) := dk_27 (dk_at dksX6_people_3 19 rfl rfl)
theorem dX6_people_90 : decode cX6_people 90 = .ok (.aload_n 0, 1) := dk_42 (dk_at dksX6_people_3 20 rfl rfl)
theorem dX6_people_91 : decode cX6_people 91 = .ok (.getfield 16, 3) := dk_180 0 16 (dk_at dksX6_people_3 21 rfl rfl)
theorem dX6_people_94 : decode cX6_people 94 = .ok (.iload_n 1, 1) := dk_27 (dk_at dksX6_people_4 0 rfl rfl)
theorem dX6_people_95 : decode cX6_people 95 = .ok (.iaload, 1) := dk_46 (dk_at dksX6_people_4 1 rfl rfl)
theorem dX6_people_96 : decode cX6_people 96 = .ok (.iastore, 1) := dk_79 (dk_at dksX6_people_4 2 rfl rfl)
theorem dX6_people_97 : decode cX6_people 97 = .ok (.iinc 1 1, 3) := dk_132 1 1 (dk_at dksX6_people_4 3 rfl rfl)
theorem dX6_people_100 : decode cX6_people 100 = .ok (.goto (-22), 3) := dk_167 255 234 (dk_at dksX6_people_4 6 rfl rfl)
theorem dX6_people_103 : decode cX6_people 103 = .ok (.iconst 0, 1) := dk_3 (dk_at dksX6_people_4 9 rfl rfl)
theorem dX6_people_104 : decode cX6_people 104 = .ok (.ireturn, 1) := dk_172 (dk_at dksX6_people_4 10 rfl rfl)
theorem dX6_people_105 : decode cX6_people 105 = .ok (.aload_n 0, 1) := dk_42 (dk_at dksX6_people_4 11 rfl rfl)
theorem dX6_people_106 : decode cX6_people 106 = .ok (.getfield 7, 3) := dk_180 0 7 (dk_at dksX6_people_4 12 rfl rfl)
theorem dX6_people_109 : decode cX6_people 109 = .ok (.iconst 0, 1) := dk_3 (dk_at dksX6_people_4 15 rfl rfl)
theorem dX6_people_110 : decode cX6_people 110 = .ok (.dup2, 1) := dk_92 (dk_at dksX6_people_4 16 rfl rfl)
theorem dX6_people_111 : decode cX6_people 111 = .ok (.iaload, 1) := dk_46 (dk_at dksX6_people_4 17 rfl rfl)
theorem dX6_people_112 : decode cX6_people 112 = .ok (.iconst 1, 1) := dk_4 (dk_at dksX6_people_4 18 rfl rfl)
theorem dX6_people_113 : decode cX6_people 113 = .ok (.iadd, 1) := dk_96 (dk_at dksX6_people_4 19 rfl rfl)
theorem dX6_people_114 : decode cX6_people 114 = .ok (.iastore, 1) := dk_79 (dk_at dksX6_people_4 20 rfl rfl)
theorem dX6_people_115 : decode cX6_people 115 = .ok (.aload_n 0, 1) := dk_42 (dk_at dksX6_people_4 21 rfl rfl)
theorem dX6_people_116 : decode cX6_people 116 = .ok (.getfield 7, 3) := dk_180 0 7 (dk_at dksX6_people_5 0 rfl rfl)
theorem dX6_people_119 : decode cX6_people 119 = .ok (.iconst 0, 1) := dk_3 (dk_at dksX6_people_5 3 rfl rfl)
theorem dX6_people_120 : decode cX6_people 120 = .ok (.iaload, 1) := dk_46 (dk_at dksX6_people_5 4 rfl rfl)
theorem dX6_people_121 : decode cX6_people 121 = .ok (.ireturn, 1) := dk_172 (dk_at dksX6_people_5 5 rfl rfl)
abbrev cX6_begins : ByteArray := prog_23_method_21_code
def yX6_begins : MethodName := ⟨RX6, "begins", "()V"⟩
def dkwX6_begins_1 : List UInt8 := [3, 181, 0, 54, 42, 3, 181, 0, 122, 177]
abbrev dktX6_begins_1 : List UInt8 := dkwX6_begins_1 ++ []
def dkwX6_begins_0 : List UInt8 := [42, 2, 181, 0, 22, 42, 2, 181, 0, 51, 42, 42, 180, 0, 48, 181, 0, 57, 42, 3, 181, 0, 48, 42]
abbrev dktX6_begins_0 : List UInt8 := dkwX6_begins_0 ++ dktX6_begins_1
theorem dksX6_begins_0 : cX6_begins.data.toList.drop 0 = dktX6_begins_0 := by decide +kernel
theorem dksX6_begins_1 : cX6_begins.data.toList.drop 24 = dktX6_begins_1 := dk_seg dksX6_begins_0 24 rfl rfl
theorem dX6_begins_0 : decode cX6_begins 0 = .ok (.aload_n 0, 1) := dk_42 (dk_at dksX6_begins_0 0 rfl rfl)
theorem dX6_begins_1 : decode cX6_begins 1 = .ok (.iconst (-1), 1) := dk_2 (dk_at dksX6_begins_0 1 rfl rfl)
theorem dX6_begins_2 : decode cX6_begins 2 = .ok (.putfield 22, 3) := dk_181 0 22 (dk_at dksX6_begins_0 2 rfl rfl)
theorem dX6_begins_5 : decode cX6_begins 5 = .ok (.aload_n 0, 1) := dk_42 (dk_at dksX6_begins_0 5 rfl rfl)
theorem dX6_begins_6 : decode cX6_begins 6 = .ok (.iconst (-1), 1) := dk_2 (dk_at dksX6_begins_0 6 rfl rfl)
theorem dX6_begins_7 : decode cX6_begins 7 = .ok (.putfield 51, 3) := dk_181 0 51 (dk_at dksX6_begins_0 7 rfl rfl)
theorem dX6_begins_10 : decode cX6_begins 10 = .ok (.aload_n 0, 1) := dk_42 (dk_at dksX6_begins_0 10 rfl rfl)
theorem dX6_begins_11 : decode cX6_begins 11 = .ok (.aload_n 0, 1) := dk_42 (dk_at dksX6_begins_0 11 rfl rfl)
theorem dX6_begins_12 : decode cX6_begins 12 = .ok (.getfield 48, 3) := dk_180 0 48 (dk_at dksX6_begins_0 12 rfl rfl)
theorem dX6_begins_15 : decode cX6_begins 15 = .ok (.putfield 57, 3) := dk_181 0 57 (dk_at dksX6_begins_0 15 rfl rfl)
theorem dX6_begins_18 : decode cX6_begins 18 = .ok (.aload_n 0, 1) := dk_42 (dk_at dksX6_begins_0 18 rfl rfl)
theorem dX6_begins_19 : decode cX6_begins 19 = .ok (.iconst 0, 1) := dk_3 (dk_at dksX6_begins_0 19 rfl rfl)
theorem dX6_begins_20 : decode cX6_begins 20 = .ok (.putfield 48, 3) := dk_181 0 48 (dk_at dksX6_begins_0 20 rfl rfl)
theorem dX6_begins_23 : decode cX6_begins 23 = .ok (.aload_n 0, 1) := dk_42 (dk_at dksX6_begins_0 23 rfl rfl)
theorem dX6_begins_24 : decode cX6_begins 24 = .ok (.iconst 0, 1) := dk_3 (dk_at dksX6_begins_1 0 rfl rfl)
theorem dX6_begins_25 : decode cX6_begins 25 = .ok (.putfield 54, 3) := dk_181 0 54 (dk_at dksX6_begins_1 1 rfl rfl)
theorem dX6_begins_28 : decode cX6_begins 28 = .ok (.aload_n 0, 1) := dk_42 (dk_at dksX6_begins_1 4 rfl rfl)
theorem dX6_begins_29 : decode cX6_begins 29 = .ok (.iconst 0, 1) := dk_3 (dk_at dksX6_begins_1 5 rfl rfl)
theorem dX6_begins_30 : decode cX6_begins 30 = .ok (.putfield 122, 3) := dk_181 0 122 (dk_at dksX6_begins_1 6 rfl rfl)
theorem dX6_begins_33 : decode cX6_begins 33 = .ok (.return_, 1) := dk_177 (dk_at dksX6_begins_1 9 rfl rfl)
abbrev cX6_read : ByteArray := prog_23_method_22_code
def yX6_read : MethodName := ⟨RX6, "read", "(Z)I"⟩
def dkwX6_read_6 : List UInt8 := [182, 0, 77, 167, 255, 138, 29, 172]
abbrev dktX6_read_6 : List UInt8 := dkwX6_read_6 ++ []
def dkwX6_read_5 : List UInt8 := [182, 0, 131, 153, 0, 16, 42, 89, 180, 0, 54, 4, 96, 181, 0, 54, 167, 255, 149, 42, 42, 180, 0, 54]
abbrev dktX6_read_5 : List UInt8 := dkwX6_read_5 ++ dktX6_read_6
def dkwX6_read_4 : List UInt8 := [160, 0, 14, 42, 180, 0, 54, 42, 180, 0, 57, 160, 0, 8, 3, 61, 167, 255, 171, 42, 16, 59]
abbrev dktX6_read_4 : List UInt8 := dkwX6_read_4 ++ dktX6_read_5
def dkwX6_read_3 : List UInt8 := [182, 0, 125, 167, 0, 7, 42, 182, 0, 128, 132, 3, 1, 42, 182, 0, 64, 42, 180, 0, 22, 2]
abbrev dktX6_read_3 : List UInt8 := dkwX6_read_3 ++ dktX6_read_4
def dkwX6_read_2 : List UInt8 := [167, 0, 5, 16, 14, 160, 0, 14, 42, 42, 180, 0, 54, 182, 0, 77, 167, 0, 18, 27, 153, 0, 10, 42]
abbrev dktX6_read_2 : List UInt8 := dkwX6_read_2 ++ dktX6_read_3
def dkwX6_read_1 : List UInt8 := [153, 0, 120, 42, 180, 0, 22, 2, 160, 0, 112, 42, 182, 0, 64, 29, 27, 153, 0, 8, 16, 12]
abbrev dktX6_read_1 : List UInt8 := dkwX6_read_1 ++ dktX6_read_2
def dkwX6_read_0 : List UInt8 := [42, 182, 0, 64, 42, 180, 0, 54, 42, 180, 0, 57, 162, 0, 7, 4, 167, 0, 4, 3, 61, 3, 62, 28]
abbrev dktX6_read_0 : List UInt8 := dkwX6_read_0 ++ dktX6_read_1
theorem dksX6_read_0 : cX6_read.data.toList.drop 0 = dktX6_read_0 := by decide +kernel
theorem dksX6_read_1 : cX6_read.data.toList.drop 24 = dktX6_read_1 := dk_seg dksX6_read_0 24 rfl rfl
theorem dksX6_read_2 : cX6_read.data.toList.drop 46 = dktX6_read_2 := dk_seg dksX6_read_1 22 rfl rfl
theorem dksX6_read_3 : cX6_read.data.toList.drop 70 = dktX6_read_3 := dk_seg dksX6_read_2 24 rfl rfl
theorem dksX6_read_4 : cX6_read.data.toList.drop 92 = dktX6_read_4 := dk_seg dksX6_read_3 22 rfl rfl
theorem dksX6_read_5 : cX6_read.data.toList.drop 114 = dktX6_read_5 := dk_seg dksX6_read_4 22 rfl rfl
theorem dksX6_read_6 : cX6_read.data.toList.drop 138 = dktX6_read_6 := dk_seg dksX6_read_5 24 rfl rfl
theorem dX6_read_0 : decode cX6_read 0 = .ok (.aload_n 0, 1) := dk_42 (dk_at dksX6_read_0 0 rfl rfl)
theorem dX6_read_1 : decode cX6_read 1 = .ok (.invokevirtual 64, 3) := dk_182 0 64 (dk_at dksX6_read_0 1 rfl rfl)
theorem dX6_read_4 : decode cX6_read 4 = .ok (.aload_n 0, 1) := dk_42 (dk_at dksX6_read_0 4 rfl rfl)
theorem dX6_read_5 : decode cX6_read 5 = .ok (.getfield 54, 3) := dk_180 0 54 (dk_at dksX6_read_0 5 rfl rfl)
theorem dX6_read_8 : decode cX6_read 8 = .ok (.aload_n 0, 1) := dk_42 (dk_at dksX6_read_0 8 rfl rfl)
theorem dX6_read_9 : decode cX6_read 9 = .ok (.getfield 57, 3) := dk_180 0 57 (dk_at dksX6_read_0 9 rfl rfl)
theorem dX6_read_12 : decode cX6_read 12 = .ok (.if_icmp .ge 7, 3) := dk_162 0 7 (dk_at dksX6_read_0 12 rfl rfl)
theorem dX6_read_15 : decode cX6_read 15 = .ok (.iconst 1, 1) := dk_4 (dk_at dksX6_read_0 15 rfl rfl)
theorem dX6_read_16 : decode cX6_read 16 = .ok (.goto 4, 3) := dk_167 0 4 (dk_at dksX6_read_0 16 rfl rfl)
theorem dX6_read_19 : decode cX6_read 19 = .ok (.iconst 0, 1) := dk_3 (dk_at dksX6_read_0 19 rfl rfl)
theorem dX6_read_20 : decode cX6_read 20 = .ok (.istore_n 2, 1) := dk_61 (dk_at dksX6_read_0 20 rfl rfl)
theorem dX6_read_21 : decode cX6_read 21 = .ok (.iconst 0, 1) := dk_3 (dk_at dksX6_read_0 21 rfl rfl)
theorem dX6_read_22 : decode cX6_read 22 = .ok (.istore_n 3, 1) := dk_62 (dk_at dksX6_read_0 22 rfl rfl)
theorem dX6_read_23 : decode cX6_read 23 = .ok (.iload_n 2, 1) := dk_28 (dk_at dksX6_read_0 23 rfl rfl)
theorem dX6_read_24 : decode cX6_read 24 = .ok (.ifCond .eq 120, 3) := dk_153 0 120 (dk_at dksX6_read_1 0 rfl rfl)
theorem dX6_read_27 : decode cX6_read 27 = .ok (.aload_n 0, 1) := dk_42 (dk_at dksX6_read_1 3 rfl rfl)
theorem dX6_read_28 : decode cX6_read 28 = .ok (.getfield 22, 3) := dk_180 0 22 (dk_at dksX6_read_1 4 rfl rfl)
theorem dX6_read_31 : decode cX6_read 31 = .ok (.iconst (-1), 1) := dk_2 (dk_at dksX6_read_1 7 rfl rfl)
theorem dX6_read_32 : decode cX6_read 32 = .ok (.if_icmp .ne 112, 3) := dk_160 0 112 (dk_at dksX6_read_1 8 rfl rfl)
theorem dX6_read_35 : decode cX6_read 35 = .ok (.aload_n 0, 1) := dk_42 (dk_at dksX6_read_1 11 rfl rfl)
theorem dX6_read_36 : decode cX6_read 36 = .ok (.invokevirtual 64, 3) := dk_182 0 64 (dk_at dksX6_read_1 12 rfl rfl)
theorem dX6_read_39 : decode cX6_read 39 = .ok (.iload_n 3, 1) := dk_29 (dk_at dksX6_read_1 15 rfl rfl)
theorem dX6_read_40 : decode cX6_read 40 = .ok (.iload_n 1, 1) := dk_27 (dk_at dksX6_read_1 16 rfl rfl)
theorem dX6_read_41 : decode cX6_read 41 = .ok (.ifCond .eq 8, 3) := dk_153 0 8 (dk_at dksX6_read_1 17 rfl rfl)
theorem dX6_read_44 : decode cX6_read 44 = .ok (.bipush 12, 2) := dk_16 12 (dk_at dksX6_read_1 20 rfl rfl)
theorem dX6_read_46 : decode cX6_read 46 = .ok (.goto 5, 3) := dk_167 0 5 (dk_at dksX6_read_2 0 rfl rfl)
theorem dX6_read_49 : decode cX6_read 49 = .ok (.bipush 14, 2) := dk_16 14 (dk_at dksX6_read_2 3 rfl rfl)
theorem dX6_read_51 : decode cX6_read 51 = .ok (.if_icmp .ne 14, 3) := dk_160 0 14 (dk_at dksX6_read_2 5 rfl rfl)
theorem dX6_read_54 : decode cX6_read 54 = .ok (.aload_n 0, 1) := dk_42 (dk_at dksX6_read_2 8 rfl rfl)
theorem dX6_read_55 : decode cX6_read 55 = .ok (.aload_n 0, 1) := dk_42 (dk_at dksX6_read_2 9 rfl rfl)
theorem dX6_read_56 : decode cX6_read 56 = .ok (.getfield 54, 3) := dk_180 0 54 (dk_at dksX6_read_2 10 rfl rfl)
theorem dX6_read_59 : decode cX6_read 59 = .ok (.invokevirtual 77, 3) := dk_182 0 77 (dk_at dksX6_read_2 13 rfl rfl)
theorem dX6_read_62 : decode cX6_read 62 = .ok (.goto 18, 3) := dk_167 0 18 (dk_at dksX6_read_2 16 rfl rfl)
theorem dX6_read_65 : decode cX6_read 65 = .ok (.iload_n 1, 1) := dk_27 (dk_at dksX6_read_2 19 rfl rfl)
theorem dX6_read_66 : decode cX6_read 66 = .ok (.ifCond .eq 10, 3) := dk_153 0 10 (dk_at dksX6_read_2 20 rfl rfl)
theorem dX6_read_69 : decode cX6_read 69 = .ok (.aload_n 0, 1) := dk_42 (dk_at dksX6_read_2 23 rfl rfl)
theorem dX6_read_70 : decode cX6_read 70 = .ok (.invokevirtual 125, 3) := dk_182 0 125 (dk_at dksX6_read_3 0 rfl rfl)
theorem dX6_read_73 : decode cX6_read 73 = .ok (.goto 7, 3) := dk_167 0 7 (dk_at dksX6_read_3 3 rfl rfl)
theorem dX6_read_76 : decode cX6_read 76 = .ok (.aload_n 0, 1) := dk_42 (dk_at dksX6_read_3 6 rfl rfl)
theorem dX6_read_77 : decode cX6_read 77 = .ok (.invokevirtual 128, 3) := dk_182 0 128 (dk_at dksX6_read_3 7 rfl rfl)
theorem dX6_read_80 : decode cX6_read 80 = .ok (.iinc 3 1, 3) := dk_132 3 1 (dk_at dksX6_read_3 10 rfl rfl)
theorem dX6_read_83 : decode cX6_read 83 = .ok (.aload_n 0, 1) := dk_42 (dk_at dksX6_read_3 13 rfl rfl)
theorem dX6_read_84 : decode cX6_read 84 = .ok (.invokevirtual 64, 3) := dk_182 0 64 (dk_at dksX6_read_3 14 rfl rfl)
theorem dX6_read_87 : decode cX6_read 87 = .ok (.aload_n 0, 1) := dk_42 (dk_at dksX6_read_3 17 rfl rfl)
theorem dX6_read_88 : decode cX6_read 88 = .ok (.getfield 22, 3) := dk_180 0 22 (dk_at dksX6_read_3 18 rfl rfl)
theorem dX6_read_91 : decode cX6_read 91 = .ok (.iconst (-1), 1) := dk_2 (dk_at dksX6_read_3 21 rfl rfl)
theorem dX6_read_92 : decode cX6_read 92 = .ok (.if_icmp .ne 14, 3) := dk_160 0 14 (dk_at dksX6_read_4 0 rfl rfl)
theorem dX6_read_95 : decode cX6_read 95 = .ok (.aload_n 0, 1) := dk_42 (dk_at dksX6_read_4 3 rfl rfl)
theorem dX6_read_96 : decode cX6_read 96 = .ok (.getfield 54, 3) := dk_180 0 54 (dk_at dksX6_read_4 4 rfl rfl)
theorem dX6_read_99 : decode cX6_read 99 = .ok (.aload_n 0, 1) := dk_42 (dk_at dksX6_read_4 7 rfl rfl)
theorem dX6_read_100 : decode cX6_read 100 = .ok (.getfield 57, 3) := dk_180 0 57 (dk_at dksX6_read_4 8 rfl rfl)
theorem dX6_read_103 : decode cX6_read 103 = .ok (.if_icmp .ne 8, 3) := dk_160 0 8 (dk_at dksX6_read_4 11 rfl rfl)
theorem dX6_read_106 : decode cX6_read 106 = .ok (.iconst 0, 1) := dk_3 (dk_at dksX6_read_4 14 rfl rfl)
theorem dX6_read_107 : decode cX6_read 107 = .ok (.istore_n 2, 1) := dk_61 (dk_at dksX6_read_4 15 rfl rfl)
theorem dX6_read_108 : decode cX6_read 108 = .ok (.goto (-85), 3) := dk_167 255 171 (dk_at dksX6_read_4 16 rfl rfl)
theorem dX6_read_111 : decode cX6_read 111 = .ok (.aload_n 0, 1) := dk_42 (dk_at dksX6_read_4 19 rfl rfl)
theorem dX6_read_112 : decode cX6_read 112 = .ok (.bipush 59, 2) := dk_16 59 (dk_at dksX6_read_4 20 rfl rfl)
theorem dX6_read_114 : decode cX6_read 114 = .ok (.invokevirtual 131, 3) := dk_182 0 131 (dk_at dksX6_read_5 0 rfl rfl)
theorem dX6_read_117 : decode cX6_read 117 = .ok (.ifCond .eq 16, 3) := dk_153 0 16 (dk_at dksX6_read_5 3 rfl rfl)
theorem dX6_read_120 : decode cX6_read 120 = .ok (.aload_n 0, 1) := dk_42 (dk_at dksX6_read_5 6 rfl rfl)
theorem dX6_read_121 : decode cX6_read 121 = .ok (.dup, 1) := dk_89 (dk_at dksX6_read_5 7 rfl rfl)
theorem dX6_read_122 : decode cX6_read 122 = .ok (.getfield 54, 3) := dk_180 0 54 (dk_at dksX6_read_5 8 rfl rfl)
theorem dX6_read_125 : decode cX6_read 125 = .ok (.iconst 1, 1) := dk_4 (dk_at dksX6_read_5 11 rfl rfl)
theorem dX6_read_126 : decode cX6_read 126 = .ok (.iadd, 1) := dk_96 (dk_at dksX6_read_5 12 rfl rfl)
theorem dX6_read_127 : decode cX6_read 127 = .ok (.putfield 54, 3) := dk_181 0 54 (dk_at dksX6_read_5 13 rfl rfl)
theorem dX6_read_130 : decode cX6_read 130 = .ok (.goto (-107), 3) := dk_167 255 149 (dk_at dksX6_read_5 16 rfl rfl)
theorem dX6_read_133 : decode cX6_read 133 = .ok (.aload_n 0, 1) := dk_42 (dk_at dksX6_read_5 19 rfl rfl)
theorem dX6_read_134 : decode cX6_read 134 = .ok (.aload_n 0, 1) := dk_42 (dk_at dksX6_read_5 20 rfl rfl)
theorem dX6_read_135 : decode cX6_read 135 = .ok (.getfield 54, 3) := dk_180 0 54 (dk_at dksX6_read_5 21 rfl rfl)
theorem dX6_read_138 : decode cX6_read 138 = .ok (.invokevirtual 77, 3) := dk_182 0 77 (dk_at dksX6_read_6 0 rfl rfl)
theorem dX6_read_141 : decode cX6_read 141 = .ok (.goto (-118), 3) := dk_167 255 138 (dk_at dksX6_read_6 3 rfl rfl)
theorem dX6_read_144 : decode cX6_read 144 = .ok (.iload_n 3, 1) := dk_29 (dk_at dksX6_read_6 6 rfl rfl)
theorem dX6_read_145 : decode cX6_read 145 = .ok (.ireturn, 1) := dk_172 (dk_at dksX6_read_6 7 rfl rfl)
abbrev cX6_skip : ByteArray := prog_23_method_13_code
def yX6_skip : MethodName := ⟨RX6, "skip", "()V"⟩
def dkwX6_skip_1 : List UInt8 := [42, 89, 180, 0, 54, 4, 96, 181, 0, 54, 167, 255, 222, 177]
abbrev dktX6_skip_1 : List UInt8 := dkwX6_skip_1 ++ []
def dkwX6_skip_0 : List UInt8 := [42, 180, 0, 54, 42, 180, 0, 57, 162, 0, 29, 42, 42, 180, 0, 54, 182, 0, 60, 16, 32, 160, 0, 16]
abbrev dktX6_skip_0 : List UInt8 := dkwX6_skip_0 ++ dktX6_skip_1
theorem dksX6_skip_0 : cX6_skip.data.toList.drop 0 = dktX6_skip_0 := by decide +kernel
theorem dksX6_skip_1 : cX6_skip.data.toList.drop 24 = dktX6_skip_1 := dk_seg dksX6_skip_0 24 rfl rfl
theorem dX6_skip_0 : decode cX6_skip 0 = .ok (.aload_n 0, 1) := dk_42 (dk_at dksX6_skip_0 0 rfl rfl)
theorem dX6_skip_1 : decode cX6_skip 1 = .ok (.getfield 54, 3) := dk_180 0 54 (dk_at dksX6_skip_0 1 rfl rfl)
theorem dX6_skip_4 : decode cX6_skip 4 = .ok (.aload_n 0, 1) := dk_42 (dk_at dksX6_skip_0 4 rfl rfl)
theorem dX6_skip_5 : decode cX6_skip 5 = .ok (.getfield 57, 3) := dk_180 0 57 (dk_at dksX6_skip_0 5 rfl rfl)
theorem dX6_skip_8 : decode cX6_skip 8 = .ok (.if_icmp .ge 29, 3) := dk_162 0 29 (dk_at dksX6_skip_0 8 rfl rfl)
theorem dX6_skip_11 : decode cX6_skip 11 = .ok (.aload_n 0, 1) := dk_42 (dk_at dksX6_skip_0 11 rfl rfl)
theorem dX6_skip_12 : decode cX6_skip 12 = .ok (.aload_n 0, 1) := dk_42 (dk_at dksX6_skip_0 12 rfl rfl)
theorem dX6_skip_13 : decode cX6_skip 13 = .ok (.getfield 54, 3) := dk_180 0 54 (dk_at dksX6_skip_0 13 rfl rfl)
theorem dX6_skip_16 : decode cX6_skip 16 = .ok (.invokevirtual 60, 3) := dk_182 0 60 (dk_at dksX6_skip_0 16 rfl rfl)
theorem dX6_skip_19 : decode cX6_skip 19 = .ok (.bipush 32, 2) := dk_16 32 (dk_at dksX6_skip_0 19 rfl rfl)
theorem dX6_skip_21 : decode cX6_skip 21 = .ok (.if_icmp .ne 16, 3) := dk_160 0 16 (dk_at dksX6_skip_0 21 rfl rfl)
theorem dX6_skip_24 : decode cX6_skip 24 = .ok (.aload_n 0, 1) := dk_42 (dk_at dksX6_skip_1 0 rfl rfl)
theorem dX6_skip_25 : decode cX6_skip 25 = .ok (.dup, 1) := dk_89 (dk_at dksX6_skip_1 1 rfl rfl)
theorem dX6_skip_26 : decode cX6_skip 26 = .ok (.getfield 54, 3) := dk_180 0 54 (dk_at dksX6_skip_1 2 rfl rfl)
theorem dX6_skip_29 : decode cX6_skip 29 = .ok (.iconst 1, 1) := dk_4 (dk_at dksX6_skip_1 5 rfl rfl)
theorem dX6_skip_30 : decode cX6_skip 30 = .ok (.iadd, 1) := dk_96 (dk_at dksX6_skip_1 6 rfl rfl)
theorem dX6_skip_31 : decode cX6_skip 31 = .ok (.putfield 54, 3) := dk_181 0 54 (dk_at dksX6_skip_1 7 rfl rfl)
theorem dX6_skip_34 : decode cX6_skip 34 = .ok (.goto (-34), 3) := dk_167 255 222 (dk_at dksX6_skip_1 10 rfl rfl)
theorem dX6_skip_37 : decode cX6_skip 37 = .ok (.return_, 1) := dk_177 (dk_at dksX6_skip_1 13 rfl rfl)
abbrev cX6_letter : ByteArray := prog_23_method_12_code
def yX6_letter : MethodName := ⟨RX6, "letter", "(I)I"⟩
def dkwX6_letter_1 : List UInt8 := [180, 0, 51, 27, 96, 46, 172]
abbrev dktX6_letter_1 : List UInt8 := dkwX6_letter_1 ++ []
def dkwX6_letter_0 : List UInt8 := [42, 180, 0, 51, 2, 160, 0, 12, 42, 180, 0, 19, 27, 46, 167, 0, 14, 42, 180, 0, 7, 42]
abbrev dktX6_letter_0 : List UInt8 := dkwX6_letter_0 ++ dktX6_letter_1
theorem dksX6_letter_0 : cX6_letter.data.toList.drop 0 = dktX6_letter_0 := by decide +kernel
theorem dksX6_letter_1 : cX6_letter.data.toList.drop 22 = dktX6_letter_1 := dk_seg dksX6_letter_0 22 rfl rfl
theorem dX6_letter_0 : decode cX6_letter 0 = .ok (.aload_n 0, 1) := dk_42 (dk_at dksX6_letter_0 0 rfl rfl)
theorem dX6_letter_1 : decode cX6_letter 1 = .ok (.getfield 51, 3) := dk_180 0 51 (dk_at dksX6_letter_0 1 rfl rfl)
theorem dX6_letter_4 : decode cX6_letter 4 = .ok (.iconst (-1), 1) := dk_2 (dk_at dksX6_letter_0 4 rfl rfl)
theorem dX6_letter_5 : decode cX6_letter 5 = .ok (.if_icmp .ne 12, 3) := dk_160 0 12 (dk_at dksX6_letter_0 5 rfl rfl)
theorem dX6_letter_8 : decode cX6_letter 8 = .ok (.aload_n 0, 1) := dk_42 (dk_at dksX6_letter_0 8 rfl rfl)
theorem dX6_letter_9 : decode cX6_letter 9 = .ok (.getfield 19, 3) := dk_180 0 19 (dk_at dksX6_letter_0 9 rfl rfl)
theorem dX6_letter_12 : decode cX6_letter 12 = .ok (.iload_n 1, 1) := dk_27 (dk_at dksX6_letter_0 12 rfl rfl)
theorem dX6_letter_13 : decode cX6_letter 13 = .ok (.iaload, 1) := dk_46 (dk_at dksX6_letter_0 13 rfl rfl)
theorem dX6_letter_14 : decode cX6_letter 14 = .ok (.goto 14, 3) := dk_167 0 14 (dk_at dksX6_letter_0 14 rfl rfl)
theorem dX6_letter_17 : decode cX6_letter 17 = .ok (.aload_n 0, 1) := dk_42 (dk_at dksX6_letter_0 17 rfl rfl)
theorem dX6_letter_18 : decode cX6_letter 18 = .ok (.getfield 7, 3) := dk_180 0 7 (dk_at dksX6_letter_0 18 rfl rfl)
theorem dX6_letter_21 : decode cX6_letter 21 = .ok (.aload_n 0, 1) := dk_42 (dk_at dksX6_letter_0 21 rfl rfl)
theorem dX6_letter_22 : decode cX6_letter 22 = .ok (.getfield 51, 3) := dk_180 0 51 (dk_at dksX6_letter_1 0 rfl rfl)
theorem dX6_letter_25 : decode cX6_letter 25 = .ok (.iload_n 1, 1) := dk_27 (dk_at dksX6_letter_1 3 rfl rfl)
theorem dX6_letter_26 : decode cX6_letter 26 = .ok (.iadd, 1) := dk_96 (dk_at dksX6_letter_1 4 rfl rfl)
theorem dX6_letter_27 : decode cX6_letter 27 = .ok (.iaload, 1) := dk_46 (dk_at dksX6_letter_1 5 rfl rfl)
theorem dX6_letter_28 : decode cX6_letter 28 = .ok (.ireturn, 1) := dk_172 (dk_at dksX6_letter_1 6 rfl rfl)
abbrev cX6_wrong : ByteArray := prog_23_method_16_code
def yX6_wrong : MethodName := ⟨RX6, "wrong", "(I)V"⟩
def dkwX6_wrong_0 : List UInt8 := [42, 180, 0, 22, 2, 160, 0, 8, 42, 27, 181, 0, 22, 177]
abbrev dktX6_wrong_0 : List UInt8 := dkwX6_wrong_0 ++ []
theorem dksX6_wrong_0 : cX6_wrong.data.toList.drop 0 = dktX6_wrong_0 := by decide +kernel
theorem dX6_wrong_0 : decode cX6_wrong 0 = .ok (.aload_n 0, 1) := dk_42 (dk_at dksX6_wrong_0 0 rfl rfl)
theorem dX6_wrong_1 : decode cX6_wrong 1 = .ok (.getfield 22, 3) := dk_180 0 22 (dk_at dksX6_wrong_0 1 rfl rfl)
theorem dX6_wrong_4 : decode cX6_wrong 4 = .ok (.iconst (-1), 1) := dk_2 (dk_at dksX6_wrong_0 4 rfl rfl)
theorem dX6_wrong_5 : decode cX6_wrong 5 = .ok (.if_icmp .ne 8, 3) := dk_160 0 8 (dk_at dksX6_wrong_0 5 rfl rfl)
theorem dX6_wrong_8 : decode cX6_wrong 8 = .ok (.aload_n 0, 1) := dk_42 (dk_at dksX6_wrong_0 8 rfl rfl)
theorem dX6_wrong_9 : decode cX6_wrong 9 = .ok (.iload_n 1, 1) := dk_27 (dk_at dksX6_wrong_0 9 rfl rfl)
theorem dX6_wrong_10 : decode cX6_wrong 10 = .ok (.putfield 22, 3) := dk_181 0 22 (dk_at dksX6_wrong_0 10 rfl rfl)
theorem dX6_wrong_13 : decode cX6_wrong 13 = .ok (.return_, 1) := dk_177 (dk_at dksX6_wrong_0 13 rfl rfl)
abbrev cX6_lawLine : ByteArray := prog_23_method_30_code
def yX6_lawLine : MethodName := ⟨RX6, "lawLine", "()V"⟩
def dkwX6_lawLine_3 : List UInt8 := [42, 180, 0, 193, 2, 160, 0, 8, 42, 27, 181, 0, 193, 177]
abbrev dktX6_lawLine_3 : List UInt8 := dkwX6_lawLine_3 ++ []
def dkwX6_lawLine_2 : List UInt8 := [182, 0, 179, 153, 0, 7, 4, 167, 0, 4, 3, 61, 42, 180, 0, 22, 2, 160, 0, 20, 28, 153, 0, 16]
abbrev dktX6_lawLine_2 : List UInt8 := dkwX6_lawLine_2 ++ dktX6_lawLine_3
def dkwX6_lawLine_1 : List UInt8 := [182, 0, 85, 60, 42, 180, 0, 22, 2, 159, 0, 4, 177, 42, 18, 191, 182, 0, 81, 153, 0, 10, 42]
abbrev dktX6_lawLine_1 : List UInt8 := dkwX6_lawLine_1 ++ dktX6_lawLine_2
def dkwX6_lawLine_0 : List UInt8 := [42, 18, 189, 182, 0, 81, 154, 0, 12, 42, 42, 180, 0, 54, 182, 0, 77, 177, 42, 3, 16, 99, 6]
abbrev dktX6_lawLine_0 : List UInt8 := dkwX6_lawLine_0 ++ dktX6_lawLine_1
theorem dksX6_lawLine_0 : cX6_lawLine.data.toList.drop 0 = dktX6_lawLine_0 := by decide +kernel
theorem dksX6_lawLine_1 : cX6_lawLine.data.toList.drop 23 = dktX6_lawLine_1 := dk_seg dksX6_lawLine_0 23 rfl rfl
theorem dksX6_lawLine_2 : cX6_lawLine.data.toList.drop 46 = dktX6_lawLine_2 := dk_seg dksX6_lawLine_1 23 rfl rfl
theorem dksX6_lawLine_3 : cX6_lawLine.data.toList.drop 70 = dktX6_lawLine_3 := dk_seg dksX6_lawLine_2 24 rfl rfl
theorem dX6_lawLine_0 : decode cX6_lawLine 0 = .ok (.aload_n 0, 1) := dk_42 (dk_at dksX6_lawLine_0 0 rfl rfl)
theorem dX6_lawLine_1 : decode cX6_lawLine 1 = .ok (.ldc 189, 2) := dk_18 189 (dk_at dksX6_lawLine_0 1 rfl rfl)
theorem dX6_lawLine_3 : decode cX6_lawLine 3 = .ok (.invokevirtual 81, 3) := dk_182 0 81 (dk_at dksX6_lawLine_0 3 rfl rfl)
theorem dX6_lawLine_6 : decode cX6_lawLine 6 = .ok (.ifCond .ne 12, 3) := dk_154 0 12 (dk_at dksX6_lawLine_0 6 rfl rfl)
theorem dX6_lawLine_9 : decode cX6_lawLine 9 = .ok (.aload_n 0, 1) := dk_42 (dk_at dksX6_lawLine_0 9 rfl rfl)
theorem dX6_lawLine_10 : decode cX6_lawLine 10 = .ok (.aload_n 0, 1) := dk_42 (dk_at dksX6_lawLine_0 10 rfl rfl)
theorem dX6_lawLine_11 : decode cX6_lawLine 11 = .ok (.getfield 54, 3) := dk_180 0 54 (dk_at dksX6_lawLine_0 11 rfl rfl)
theorem dX6_lawLine_14 : decode cX6_lawLine 14 = .ok (.invokevirtual 77, 3) := dk_182 0 77 (dk_at dksX6_lawLine_0 14 rfl rfl)
theorem dX6_lawLine_17 : decode cX6_lawLine 17 = .ok (.return_, 1) := dk_177 (dk_at dksX6_lawLine_0 17 rfl rfl)
theorem dX6_lawLine_18 : decode cX6_lawLine 18 = .ok (.aload_n 0, 1) := dk_42 (dk_at dksX6_lawLine_0 18 rfl rfl)
theorem dX6_lawLine_19 : decode cX6_lawLine 19 = .ok (.iconst 0, 1) := dk_3 (dk_at dksX6_lawLine_0 19 rfl rfl)
theorem dX6_lawLine_20 : decode cX6_lawLine 20 = .ok (.bipush 99, 2) := dk_16 99 (dk_at dksX6_lawLine_0 20 rfl rfl)
theorem dX6_lawLine_22 : decode cX6_lawLine 22 = .ok (.iconst 3, 1) := dk_6 (dk_at dksX6_lawLine_0 22 rfl rfl)
theorem dX6_lawLine_23 : decode cX6_lawLine 23 = .ok (.invokevirtual 85, 3) := dk_182 0 85 (dk_at dksX6_lawLine_1 0 rfl rfl)
theorem dX6_lawLine_26 : decode cX6_lawLine 26 = .ok (.istore_n 1, 1) := dk_60 (dk_at dksX6_lawLine_1 3 rfl rfl)
theorem dX6_lawLine_27 : decode cX6_lawLine 27 = .ok (.aload_n 0, 1) := dk_42 (dk_at dksX6_lawLine_1 4 rfl rfl)
theorem dX6_lawLine_28 : decode cX6_lawLine 28 = .ok (.getfield 22, 3) := dk_180 0 22 (dk_at dksX6_lawLine_1 5 rfl rfl)
theorem dX6_lawLine_31 : decode cX6_lawLine 31 = .ok (.iconst (-1), 1) := dk_2 (dk_at dksX6_lawLine_1 8 rfl rfl)
theorem dX6_lawLine_32 : decode cX6_lawLine 32 = .ok (.if_icmp .eq 4, 3) := dk_159 0 4 (dk_at dksX6_lawLine_1 9 rfl rfl)
theorem dX6_lawLine_35 : decode cX6_lawLine 35 = .ok (.return_, 1) := dk_177 (dk_at dksX6_lawLine_1 12 rfl rfl)
theorem dX6_lawLine_36 : decode cX6_lawLine 36 = .ok (.aload_n 0, 1) := dk_42 (dk_at dksX6_lawLine_1 13 rfl rfl)
theorem dX6_lawLine_37 : decode cX6_lawLine 37 = .ok (.ldc 191, 2) := dk_18 191 (dk_at dksX6_lawLine_1 14 rfl rfl)
theorem dX6_lawLine_39 : decode cX6_lawLine 39 = .ok (.invokevirtual 81, 3) := dk_182 0 81 (dk_at dksX6_lawLine_1 16 rfl rfl)
theorem dX6_lawLine_42 : decode cX6_lawLine 42 = .ok (.ifCond .eq 10, 3) := dk_153 0 10 (dk_at dksX6_lawLine_1 19 rfl rfl)
theorem dX6_lawLine_45 : decode cX6_lawLine 45 = .ok (.aload_n 0, 1) := dk_42 (dk_at dksX6_lawLine_1 22 rfl rfl)
theorem dX6_lawLine_46 : decode cX6_lawLine 46 = .ok (.invokevirtual 179, 3) := dk_182 0 179 (dk_at dksX6_lawLine_2 0 rfl rfl)
theorem dX6_lawLine_49 : decode cX6_lawLine 49 = .ok (.ifCond .eq 7, 3) := dk_153 0 7 (dk_at dksX6_lawLine_2 3 rfl rfl)
theorem dX6_lawLine_52 : decode cX6_lawLine 52 = .ok (.iconst 1, 1) := dk_4 (dk_at dksX6_lawLine_2 6 rfl rfl)
theorem dX6_lawLine_53 : decode cX6_lawLine 53 = .ok (.goto 4, 3) := dk_167 0 4 (dk_at dksX6_lawLine_2 7 rfl rfl)
theorem dX6_lawLine_56 : decode cX6_lawLine 56 = .ok (.iconst 0, 1) := dk_3 (dk_at dksX6_lawLine_2 10 rfl rfl)
theorem dX6_lawLine_57 : decode cX6_lawLine 57 = .ok (.istore_n 2, 1) := dk_61 (dk_at dksX6_lawLine_2 11 rfl rfl)
theorem dX6_lawLine_58 : decode cX6_lawLine 58 = .ok (.aload_n 0, 1) := dk_42 (dk_at dksX6_lawLine_2 12 rfl rfl)
theorem dX6_lawLine_59 : decode cX6_lawLine 59 = .ok (.getfield 22, 3) := dk_180 0 22 (dk_at dksX6_lawLine_2 13 rfl rfl)
theorem dX6_lawLine_62 : decode cX6_lawLine 62 = .ok (.iconst (-1), 1) := dk_2 (dk_at dksX6_lawLine_2 16 rfl rfl)
theorem dX6_lawLine_63 : decode cX6_lawLine 63 = .ok (.if_icmp .ne 20, 3) := dk_160 0 20 (dk_at dksX6_lawLine_2 17 rfl rfl)
theorem dX6_lawLine_66 : decode cX6_lawLine 66 = .ok (.iload_n 2, 1) := dk_28 (dk_at dksX6_lawLine_2 20 rfl rfl)
theorem dX6_lawLine_67 : decode cX6_lawLine 67 = .ok (.ifCond .eq 16, 3) := dk_153 0 16 (dk_at dksX6_lawLine_2 21 rfl rfl)
theorem dX6_lawLine_70 : decode cX6_lawLine 70 = .ok (.aload_n 0, 1) := dk_42 (dk_at dksX6_lawLine_3 0 rfl rfl)
theorem dX6_lawLine_71 : decode cX6_lawLine 71 = .ok (.getfield 193, 3) := dk_180 0 193 (dk_at dksX6_lawLine_3 1 rfl rfl)
theorem dX6_lawLine_74 : decode cX6_lawLine 74 = .ok (.iconst (-1), 1) := dk_2 (dk_at dksX6_lawLine_3 4 rfl rfl)
theorem dX6_lawLine_75 : decode cX6_lawLine 75 = .ok (.if_icmp .ne 8, 3) := dk_160 0 8 (dk_at dksX6_lawLine_3 5 rfl rfl)
theorem dX6_lawLine_78 : decode cX6_lawLine 78 = .ok (.aload_n 0, 1) := dk_42 (dk_at dksX6_lawLine_3 8 rfl rfl)
theorem dX6_lawLine_79 : decode cX6_lawLine 79 = .ok (.iload_n 1, 1) := dk_27 (dk_at dksX6_lawLine_3 9 rfl rfl)
theorem dX6_lawLine_80 : decode cX6_lawLine 80 = .ok (.putfield 193, 3) := dk_181 0 193 (dk_at dksX6_lawLine_3 10 rfl rfl)
theorem dX6_lawLine_83 : decode cX6_lawLine 83 = .ok (.return_, 1) := dk_177 (dk_at dksX6_lawLine_3 13 rfl rfl)
abbrev cX6_has : ByteArray := prog_23_method_15_code
def yX6_has : MethodName := ⟨RX6, "has", "(Ljava/lang/String;)Z"⟩
def dkwX6_has_4 : List UInt8 := [4, 172]
abbrev dktX6_has_4 : List UInt8 := dkwX6_has_4 ++ []
def dkwX6_has_3 : List UInt8 := [182, 0, 60, 43, 29, 182, 0, 73, 159, 0, 5, 3, 172, 132, 3, 1, 167, 255, 225, 42, 28, 181, 0, 54]
abbrev dktX6_has_3 : List UInt8 := dkwX6_has_3 ++ dktX6_has_4
def dkwX6_has_2 : List UInt8 := [159, 0, 5, 3, 172, 3, 62, 29, 43, 182, 0, 67, 162, 0, 29, 42, 42, 180, 0, 54, 29, 96]
abbrev dktX6_has_2 : List UInt8 := dkwX6_has_2 ++ dktX6_has_3
def dkwX6_has_1 : List UInt8 := [16, 122, 184, 0, 44, 153, 0, 9, 132, 2, 1, 167, 255, 230, 28, 42, 180, 0, 54, 100, 43, 182, 0, 67]
abbrev dktX6_has_1 : List UInt8 := dkwX6_has_1 ++ dktX6_has_2
def dkwX6_has_0 : List UInt8 := [42, 182, 0, 64, 42, 180, 0, 54, 61, 28, 42, 180, 0, 57, 162, 0, 24, 42, 28, 182, 0, 60, 16, 97]
abbrev dktX6_has_0 : List UInt8 := dkwX6_has_0 ++ dktX6_has_1
theorem dksX6_has_0 : cX6_has.data.toList.drop 0 = dktX6_has_0 := by decide +kernel
theorem dksX6_has_1 : cX6_has.data.toList.drop 24 = dktX6_has_1 := dk_seg dksX6_has_0 24 rfl rfl
theorem dksX6_has_2 : cX6_has.data.toList.drop 48 = dktX6_has_2 := dk_seg dksX6_has_1 24 rfl rfl
theorem dksX6_has_3 : cX6_has.data.toList.drop 70 = dktX6_has_3 := dk_seg dksX6_has_2 22 rfl rfl
theorem dksX6_has_4 : cX6_has.data.toList.drop 94 = dktX6_has_4 := dk_seg dksX6_has_3 24 rfl rfl
theorem dX6_has_0 : decode cX6_has 0 = .ok (.aload_n 0, 1) := dk_42 (dk_at dksX6_has_0 0 rfl rfl)
theorem dX6_has_1 : decode cX6_has 1 = .ok (.invokevirtual 64, 3) := dk_182 0 64 (dk_at dksX6_has_0 1 rfl rfl)
theorem dX6_has_4 : decode cX6_has 4 = .ok (.aload_n 0, 1) := dk_42 (dk_at dksX6_has_0 4 rfl rfl)
theorem dX6_has_5 : decode cX6_has 5 = .ok (.getfield 54, 3) := dk_180 0 54 (dk_at dksX6_has_0 5 rfl rfl)
theorem dX6_has_8 : decode cX6_has 8 = .ok (.istore_n 2, 1) := dk_61 (dk_at dksX6_has_0 8 rfl rfl)
theorem dX6_has_9 : decode cX6_has 9 = .ok (.iload_n 2, 1) := dk_28 (dk_at dksX6_has_0 9 rfl rfl)
theorem dX6_has_10 : decode cX6_has 10 = .ok (.aload_n 0, 1) := dk_42 (dk_at dksX6_has_0 10 rfl rfl)
theorem dX6_has_11 : decode cX6_has 11 = .ok (.getfield 57, 3) := dk_180 0 57 (dk_at dksX6_has_0 11 rfl rfl)
theorem dX6_has_14 : decode cX6_has 14 = .ok (.if_icmp .ge 24, 3) := dk_162 0 24 (dk_at dksX6_has_0 14 rfl rfl)
theorem dX6_has_17 : decode cX6_has 17 = .ok (.aload_n 0, 1) := dk_42 (dk_at dksX6_has_0 17 rfl rfl)
theorem dX6_has_18 : decode cX6_has 18 = .ok (.iload_n 2, 1) := dk_28 (dk_at dksX6_has_0 18 rfl rfl)
theorem dX6_has_19 : decode cX6_has 19 = .ok (.invokevirtual 60, 3) := dk_182 0 60 (dk_at dksX6_has_0 19 rfl rfl)
theorem dX6_has_22 : decode cX6_has 22 = .ok (.bipush 97, 2) := dk_16 97 (dk_at dksX6_has_0 22 rfl rfl)
theorem dX6_has_24 : decode cX6_has 24 = .ok (.bipush 122, 2) := dk_16 122 (dk_at dksX6_has_1 0 rfl rfl)
theorem dX6_has_26 : decode cX6_has 26 = .ok (.invokestatic 44, 3) := dk_184 0 44 (dk_at dksX6_has_1 2 rfl rfl)
theorem dX6_has_29 : decode cX6_has 29 = .ok (.ifCond .eq 9, 3) := dk_153 0 9 (dk_at dksX6_has_1 5 rfl rfl)
theorem dX6_has_32 : decode cX6_has 32 = .ok (.iinc 2 1, 3) := dk_132 2 1 (dk_at dksX6_has_1 8 rfl rfl)
theorem dX6_has_35 : decode cX6_has 35 = .ok (.goto (-26), 3) := dk_167 255 230 (dk_at dksX6_has_1 11 rfl rfl)
theorem dX6_has_38 : decode cX6_has 38 = .ok (.iload_n 2, 1) := dk_28 (dk_at dksX6_has_1 14 rfl rfl)
theorem dX6_has_39 : decode cX6_has 39 = .ok (.aload_n 0, 1) := dk_42 (dk_at dksX6_has_1 15 rfl rfl)
theorem dX6_has_40 : decode cX6_has 40 = .ok (.getfield 54, 3) := dk_180 0 54 (dk_at dksX6_has_1 16 rfl rfl)
theorem dX6_has_43 : decode cX6_has 43 = .ok (.isub, 1) := dk_100 (dk_at dksX6_has_1 19 rfl rfl)
theorem dX6_has_44 : decode cX6_has 44 = .ok (.aload_n 1, 1) := dk_43 (dk_at dksX6_has_1 20 rfl rfl)
theorem dX6_has_45 : decode cX6_has 45 = .ok (.invokevirtual 67, 3) := dk_182 0 67 (dk_at dksX6_has_1 21 rfl rfl)
theorem dX6_has_48 : decode cX6_has 48 = .ok (.if_icmp .eq 5, 3) := dk_159 0 5 (dk_at dksX6_has_2 0 rfl rfl)
theorem dX6_has_51 : decode cX6_has 51 = .ok (.iconst 0, 1) := dk_3 (dk_at dksX6_has_2 3 rfl rfl)
theorem dX6_has_52 : decode cX6_has 52 = .ok (.ireturn, 1) := dk_172 (dk_at dksX6_has_2 4 rfl rfl)
theorem dX6_has_53 : decode cX6_has 53 = .ok (.iconst 0, 1) := dk_3 (dk_at dksX6_has_2 5 rfl rfl)
theorem dX6_has_54 : decode cX6_has 54 = .ok (.istore_n 3, 1) := dk_62 (dk_at dksX6_has_2 6 rfl rfl)
theorem dX6_has_55 : decode cX6_has 55 = .ok (.iload_n 3, 1) := dk_29 (dk_at dksX6_has_2 7 rfl rfl)
theorem dX6_has_56 : decode cX6_has 56 = .ok (.aload_n 1, 1) := dk_43 (dk_at dksX6_has_2 8 rfl rfl)
theorem dX6_has_57 : decode cX6_has 57 = .ok (.invokevirtual 67, 3) := dk_182 0 67 (dk_at dksX6_has_2 9 rfl rfl)
theorem dX6_has_60 : decode cX6_has 60 = .ok (.if_icmp .ge 29, 3) := dk_162 0 29 (dk_at dksX6_has_2 12 rfl rfl)
theorem dX6_has_63 : decode cX6_has 63 = .ok (.aload_n 0, 1) := dk_42 (dk_at dksX6_has_2 15 rfl rfl)
theorem dX6_has_64 : decode cX6_has 64 = .ok (.aload_n 0, 1) := dk_42 (dk_at dksX6_has_2 16 rfl rfl)
theorem dX6_has_65 : decode cX6_has 65 = .ok (.getfield 54, 3) := dk_180 0 54 (dk_at dksX6_has_2 17 rfl rfl)
theorem dX6_has_68 : decode cX6_has 68 = .ok (.iload_n 3, 1) := dk_29 (dk_at dksX6_has_2 20 rfl rfl)
theorem dX6_has_69 : decode cX6_has 69 = .ok (.iadd, 1) := dk_96 (dk_at dksX6_has_2 21 rfl rfl)
theorem dX6_has_70 : decode cX6_has 70 = .ok (.invokevirtual 60, 3) := dk_182 0 60 (dk_at dksX6_has_3 0 rfl rfl)
theorem dX6_has_73 : decode cX6_has 73 = .ok (.aload_n 1, 1) := dk_43 (dk_at dksX6_has_3 3 rfl rfl)
theorem dX6_has_74 : decode cX6_has 74 = .ok (.iload_n 3, 1) := dk_29 (dk_at dksX6_has_3 4 rfl rfl)
theorem dX6_has_75 : decode cX6_has 75 = .ok (.invokevirtual 73, 3) := dk_182 0 73 (dk_at dksX6_has_3 5 rfl rfl)
theorem dX6_has_78 : decode cX6_has 78 = .ok (.if_icmp .eq 5, 3) := dk_159 0 5 (dk_at dksX6_has_3 8 rfl rfl)
theorem dX6_has_81 : decode cX6_has 81 = .ok (.iconst 0, 1) := dk_3 (dk_at dksX6_has_3 11 rfl rfl)
theorem dX6_has_82 : decode cX6_has 82 = .ok (.ireturn, 1) := dk_172 (dk_at dksX6_has_3 12 rfl rfl)
theorem dX6_has_83 : decode cX6_has 83 = .ok (.iinc 3 1, 3) := dk_132 3 1 (dk_at dksX6_has_3 13 rfl rfl)
theorem dX6_has_86 : decode cX6_has 86 = .ok (.goto (-31), 3) := dk_167 255 225 (dk_at dksX6_has_3 16 rfl rfl)
theorem dX6_has_89 : decode cX6_has 89 = .ok (.aload_n 0, 1) := dk_42 (dk_at dksX6_has_3 19 rfl rfl)
theorem dX6_has_90 : decode cX6_has 90 = .ok (.iload_n 2, 1) := dk_28 (dk_at dksX6_has_3 20 rfl rfl)
theorem dX6_has_91 : decode cX6_has 91 = .ok (.putfield 54, 3) := dk_181 0 54 (dk_at dksX6_has_3 21 rfl rfl)
theorem dX6_has_94 : decode cX6_has 94 = .ok (.iconst 1, 1) := dk_4 (dk_at dksX6_has_4 0 rfl rfl)
theorem dX6_has_95 : decode cX6_has 95 = .ok (.ireturn, 1) := dk_172 (dk_at dksX6_has_4 1 rfl rfl)
abbrev cX6_figures : ByteArray := prog_23_method_17_code
def yX6_figures : MethodName := ⟨RX6, "figures", "(III)I"⟩
def dkwX6_figures_5 : List UInt8 := [21, 5, 27, 161, 0, 9, 21, 5, 28, 164, 0, 9, 42, 21, 4, 182, 0, 77, 21, 5, 172]
abbrev dktX6_figures_5 : List UInt8 := dkwX6_figures_5 ++ []
def dkwX6_figures_4 : List UInt8 := [167, 255, 187, 42, 180, 0, 54, 21, 4, 159, 0, 26, 42, 180, 0, 54, 21, 4, 100, 29, 163, 0, 15]
abbrev dktX6_figures_4 : List UInt8 := dkwX6_figures_4 ++ dktX6_figures_5
def dkwX6_figures_3 : List UInt8 := [180, 0, 54, 182, 0, 60, 96, 16, 48, 100, 54, 5, 42, 89, 180, 0, 54, 4, 96, 181, 0, 54]
abbrev dktX6_figures_3 : List UInt8 := dkwX6_figures_3 ++ dktX6_figures_4
def dkwX6_figures_2 : List UInt8 := [184, 0, 44, 153, 0, 46, 42, 180, 0, 54, 21, 4, 100, 29, 163, 0, 35, 16, 10, 21, 5, 104, 42, 42]
abbrev dktX6_figures_2 : List UInt8 := dkwX6_figures_2 ++ dktX6_figures_3
def dkwX6_figures_1 : List UInt8 := [180, 0, 54, 42, 180, 0, 57, 162, 0, 64, 42, 42, 180, 0, 54, 182, 0, 60, 16, 48, 16, 57]
abbrev dktX6_figures_1 : List UInt8 := dkwX6_figures_1 ++ dktX6_figures_2
def dkwX6_figures_0 : List UInt8 := [42, 180, 0, 22, 2, 159, 0, 5, 3, 172, 42, 182, 0, 64, 42, 180, 0, 54, 54, 4, 3, 54, 5, 42]
abbrev dktX6_figures_0 : List UInt8 := dkwX6_figures_0 ++ dktX6_figures_1
theorem dksX6_figures_0 : cX6_figures.data.toList.drop 0 = dktX6_figures_0 := by decide +kernel
theorem dksX6_figures_1 : cX6_figures.data.toList.drop 24 = dktX6_figures_1 := dk_seg dksX6_figures_0 24 rfl rfl
theorem dksX6_figures_2 : cX6_figures.data.toList.drop 46 = dktX6_figures_2 := dk_seg dksX6_figures_1 22 rfl rfl
theorem dksX6_figures_3 : cX6_figures.data.toList.drop 70 = dktX6_figures_3 := dk_seg dksX6_figures_2 24 rfl rfl
theorem dksX6_figures_4 : cX6_figures.data.toList.drop 92 = dktX6_figures_4 := dk_seg dksX6_figures_3 22 rfl rfl
theorem dksX6_figures_5 : cX6_figures.data.toList.drop 115 = dktX6_figures_5 := dk_seg dksX6_figures_4 23 rfl rfl
theorem dX6_figures_0 : decode cX6_figures 0 = .ok (.aload_n 0, 1) := dk_42 (dk_at dksX6_figures_0 0 rfl rfl)
theorem dX6_figures_1 : decode cX6_figures 1 = .ok (.getfield 22, 3) := dk_180 0 22 (dk_at dksX6_figures_0 1 rfl rfl)
theorem dX6_figures_4 : decode cX6_figures 4 = .ok (.iconst (-1), 1) := dk_2 (dk_at dksX6_figures_0 4 rfl rfl)
theorem dX6_figures_5 : decode cX6_figures 5 = .ok (.if_icmp .eq 5, 3) := dk_159 0 5 (dk_at dksX6_figures_0 5 rfl rfl)
theorem dX6_figures_8 : decode cX6_figures 8 = .ok (.iconst 0, 1) := dk_3 (dk_at dksX6_figures_0 8 rfl rfl)
theorem dX6_figures_9 : decode cX6_figures 9 = .ok (.ireturn, 1) := dk_172 (dk_at dksX6_figures_0 9 rfl rfl)
theorem dX6_figures_10 : decode cX6_figures 10 = .ok (.aload_n 0, 1) := dk_42 (dk_at dksX6_figures_0 10 rfl rfl)
theorem dX6_figures_11 : decode cX6_figures 11 = .ok (.invokevirtual 64, 3) := dk_182 0 64 (dk_at dksX6_figures_0 11 rfl rfl)
theorem dX6_figures_14 : decode cX6_figures 14 = .ok (.aload_n 0, 1) := dk_42 (dk_at dksX6_figures_0 14 rfl rfl)
theorem dX6_figures_15 : decode cX6_figures 15 = .ok (.getfield 54, 3) := dk_180 0 54 (dk_at dksX6_figures_0 15 rfl rfl)
theorem dX6_figures_18 : decode cX6_figures 18 = .ok (.istore 4, 2) := dk_54 4 (dk_at dksX6_figures_0 18 rfl rfl)
theorem dX6_figures_20 : decode cX6_figures 20 = .ok (.iconst 0, 1) := dk_3 (dk_at dksX6_figures_0 20 rfl rfl)
theorem dX6_figures_21 : decode cX6_figures 21 = .ok (.istore 5, 2) := dk_54 5 (dk_at dksX6_figures_0 21 rfl rfl)
theorem dX6_figures_23 : decode cX6_figures 23 = .ok (.aload_n 0, 1) := dk_42 (dk_at dksX6_figures_0 23 rfl rfl)
theorem dX6_figures_24 : decode cX6_figures 24 = .ok (.getfield 54, 3) := dk_180 0 54 (dk_at dksX6_figures_1 0 rfl rfl)
theorem dX6_figures_27 : decode cX6_figures 27 = .ok (.aload_n 0, 1) := dk_42 (dk_at dksX6_figures_1 3 rfl rfl)
theorem dX6_figures_28 : decode cX6_figures 28 = .ok (.getfield 57, 3) := dk_180 0 57 (dk_at dksX6_figures_1 4 rfl rfl)
theorem dX6_figures_31 : decode cX6_figures 31 = .ok (.if_icmp .ge 64, 3) := dk_162 0 64 (dk_at dksX6_figures_1 7 rfl rfl)
theorem dX6_figures_34 : decode cX6_figures 34 = .ok (.aload_n 0, 1) := dk_42 (dk_at dksX6_figures_1 10 rfl rfl)
theorem dX6_figures_35 : decode cX6_figures 35 = .ok (.aload_n 0, 1) := dk_42 (dk_at dksX6_figures_1 11 rfl rfl)
theorem dX6_figures_36 : decode cX6_figures 36 = .ok (.getfield 54, 3) := dk_180 0 54 (dk_at dksX6_figures_1 12 rfl rfl)
theorem dX6_figures_39 : decode cX6_figures 39 = .ok (.invokevirtual 60, 3) := dk_182 0 60 (dk_at dksX6_figures_1 15 rfl rfl)
theorem dX6_figures_42 : decode cX6_figures 42 = .ok (.bipush 48, 2) := dk_16 48 (dk_at dksX6_figures_1 18 rfl rfl)
theorem dX6_figures_44 : decode cX6_figures 44 = .ok (.bipush 57, 2) := dk_16 57 (dk_at dksX6_figures_1 20 rfl rfl)
theorem dX6_figures_46 : decode cX6_figures 46 = .ok (.invokestatic 44, 3) := dk_184 0 44 (dk_at dksX6_figures_2 0 rfl rfl)
theorem dX6_figures_49 : decode cX6_figures 49 = .ok (.ifCond .eq 46, 3) := dk_153 0 46 (dk_at dksX6_figures_2 3 rfl rfl)
theorem dX6_figures_52 : decode cX6_figures 52 = .ok (.aload_n 0, 1) := dk_42 (dk_at dksX6_figures_2 6 rfl rfl)
theorem dX6_figures_53 : decode cX6_figures 53 = .ok (.getfield 54, 3) := dk_180 0 54 (dk_at dksX6_figures_2 7 rfl rfl)
theorem dX6_figures_56 : decode cX6_figures 56 = .ok (.iload 4, 2) := dk_21 4 (dk_at dksX6_figures_2 10 rfl rfl)
theorem dX6_figures_58 : decode cX6_figures 58 = .ok (.isub, 1) := dk_100 (dk_at dksX6_figures_2 12 rfl rfl)
theorem dX6_figures_59 : decode cX6_figures 59 = .ok (.iload_n 3, 1) := dk_29 (dk_at dksX6_figures_2 13 rfl rfl)
theorem dX6_figures_60 : decode cX6_figures 60 = .ok (.if_icmp .gt 35, 3) := dk_163 0 35 (dk_at dksX6_figures_2 14 rfl rfl)
theorem dX6_figures_63 : decode cX6_figures 63 = .ok (.bipush 10, 2) := dk_16 10 (dk_at dksX6_figures_2 17 rfl rfl)
theorem dX6_figures_65 : decode cX6_figures 65 = .ok (.iload 5, 2) := dk_21 5 (dk_at dksX6_figures_2 19 rfl rfl)
theorem dX6_figures_67 : decode cX6_figures 67 = .ok (.imul, 1) := dk_104 (dk_at dksX6_figures_2 21 rfl rfl)
theorem dX6_figures_68 : decode cX6_figures 68 = .ok (.aload_n 0, 1) := dk_42 (dk_at dksX6_figures_2 22 rfl rfl)
theorem dX6_figures_69 : decode cX6_figures 69 = .ok (.aload_n 0, 1) := dk_42 (dk_at dksX6_figures_2 23 rfl rfl)
theorem dX6_figures_70 : decode cX6_figures 70 = .ok (.getfield 54, 3) := dk_180 0 54 (dk_at dksX6_figures_3 0 rfl rfl)
theorem dX6_figures_73 : decode cX6_figures 73 = .ok (.invokevirtual 60, 3) := dk_182 0 60 (dk_at dksX6_figures_3 3 rfl rfl)
theorem dX6_figures_76 : decode cX6_figures 76 = .ok (.iadd, 1) := dk_96 (dk_at dksX6_figures_3 6 rfl rfl)
theorem dX6_figures_77 : decode cX6_figures 77 = .ok (.bipush 48, 2) := dk_16 48 (dk_at dksX6_figures_3 7 rfl rfl)
theorem dX6_figures_79 : decode cX6_figures 79 = .ok (.isub, 1) := dk_100 (dk_at dksX6_figures_3 9 rfl rfl)
theorem dX6_figures_80 : decode cX6_figures 80 = .ok (.istore 5, 2) := dk_54 5 (dk_at dksX6_figures_3 10 rfl rfl)
theorem dX6_figures_82 : decode cX6_figures 82 = .ok (.aload_n 0, 1) := dk_42 (dk_at dksX6_figures_3 12 rfl rfl)
theorem dX6_figures_83 : decode cX6_figures 83 = .ok (.dup, 1) := dk_89 (dk_at dksX6_figures_3 13 rfl rfl)
theorem dX6_figures_84 : decode cX6_figures 84 = .ok (.getfield 54, 3) := dk_180 0 54 (dk_at dksX6_figures_3 14 rfl rfl)
theorem dX6_figures_87 : decode cX6_figures 87 = .ok (.iconst 1, 1) := dk_4 (dk_at dksX6_figures_3 17 rfl rfl)
theorem dX6_figures_88 : decode cX6_figures 88 = .ok (.iadd, 1) := dk_96 (dk_at dksX6_figures_3 18 rfl rfl)
theorem dX6_figures_89 : decode cX6_figures 89 = .ok (.putfield 54, 3) := dk_181 0 54 (dk_at dksX6_figures_3 19 rfl rfl)
theorem dX6_figures_92 : decode cX6_figures 92 = .ok (.goto (-69), 3) := dk_167 255 187 (dk_at dksX6_figures_4 0 rfl rfl)
theorem dX6_figures_95 : decode cX6_figures 95 = .ok (.aload_n 0, 1) := dk_42 (dk_at dksX6_figures_4 3 rfl rfl)
theorem dX6_figures_96 : decode cX6_figures 96 = .ok (.getfield 54, 3) := dk_180 0 54 (dk_at dksX6_figures_4 4 rfl rfl)
theorem dX6_figures_99 : decode cX6_figures 99 = .ok (.iload 4, 2) := dk_21 4 (dk_at dksX6_figures_4 7 rfl rfl)
theorem dX6_figures_101 : decode cX6_figures 101 = .ok (.if_icmp .eq 26, 3) := dk_159 0 26 (dk_at dksX6_figures_4 9 rfl rfl)
theorem dX6_figures_104 : decode cX6_figures 104 = .ok (.aload_n 0, 1) := dk_42 (dk_at dksX6_figures_4 12 rfl rfl)
theorem dX6_figures_105 : decode cX6_figures 105 = .ok (.getfield 54, 3) := dk_180 0 54 (dk_at dksX6_figures_4 13 rfl rfl)
theorem dX6_figures_108 : decode cX6_figures 108 = .ok (.iload 4, 2) := dk_21 4 (dk_at dksX6_figures_4 16 rfl rfl)
theorem dX6_figures_110 : decode cX6_figures 110 = .ok (.isub, 1) := dk_100 (dk_at dksX6_figures_4 18 rfl rfl)
theorem dX6_figures_111 : decode cX6_figures 111 = .ok (.iload_n 3, 1) := dk_29 (dk_at dksX6_figures_4 19 rfl rfl)
theorem dX6_figures_112 : decode cX6_figures 112 = .ok (.if_icmp .gt 15, 3) := dk_163 0 15 (dk_at dksX6_figures_4 20 rfl rfl)
theorem dX6_figures_115 : decode cX6_figures 115 = .ok (.iload 5, 2) := dk_21 5 (dk_at dksX6_figures_5 0 rfl rfl)
theorem dX6_figures_117 : decode cX6_figures 117 = .ok (.iload_n 1, 1) := dk_27 (dk_at dksX6_figures_5 2 rfl rfl)
theorem dX6_figures_118 : decode cX6_figures 118 = .ok (.if_icmp .lt 9, 3) := dk_161 0 9 (dk_at dksX6_figures_5 3 rfl rfl)
theorem dX6_figures_121 : decode cX6_figures 121 = .ok (.iload 5, 2) := dk_21 5 (dk_at dksX6_figures_5 6 rfl rfl)
theorem dX6_figures_123 : decode cX6_figures 123 = .ok (.iload_n 2, 1) := dk_28 (dk_at dksX6_figures_5 8 rfl rfl)
theorem dX6_figures_124 : decode cX6_figures 124 = .ok (.if_icmp .le 9, 3) := dk_164 0 9 (dk_at dksX6_figures_5 9 rfl rfl)
theorem dX6_figures_127 : decode cX6_figures 127 = .ok (.aload_n 0, 1) := dk_42 (dk_at dksX6_figures_5 12 rfl rfl)
theorem dX6_figures_128 : decode cX6_figures 128 = .ok (.iload 4, 2) := dk_21 4 (dk_at dksX6_figures_5 13 rfl rfl)
theorem dX6_figures_130 : decode cX6_figures 130 = .ok (.invokevirtual 77, 3) := dk_182 0 77 (dk_at dksX6_figures_5 15 rfl rfl)
theorem dX6_figures_133 : decode cX6_figures 133 = .ok (.iload 5, 2) := dk_21 5 (dk_at dksX6_figures_5 18 rfl rfl)
theorem dX6_figures_135 : decode cX6_figures 135 = .ok (.ireturn, 1) := dk_172 (dk_at dksX6_figures_5 20 rfl rfl)
abbrev cX6_some : ByteArray := prog_23_method_29_code
def yX6_some : MethodName := ⟨RX6, "some", "()Z"⟩
def dkwX6_some_1 : List UInt8 := [182, 0, 184, 61, 27, 154, 0, 7, 28, 153, 0, 7, 4, 167, 0, 4, 3, 60, 167, 255, 220, 27, 172]
abbrev dktX6_some_1 : List UInt8 := dkwX6_some_1 ++ []
def dkwX6_some_0 : List UInt8 := [42, 182, 0, 184, 60, 42, 180, 0, 22, 2, 160, 0, 34, 42, 18, 187, 182, 0, 81, 153, 0, 25, 42]
abbrev dktX6_some_0 : List UInt8 := dkwX6_some_0 ++ dktX6_some_1
theorem dksX6_some_0 : cX6_some.data.toList.drop 0 = dktX6_some_0 := by decide +kernel
theorem dksX6_some_1 : cX6_some.data.toList.drop 23 = dktX6_some_1 := dk_seg dksX6_some_0 23 rfl rfl
theorem dX6_some_0 : decode cX6_some 0 = .ok (.aload_n 0, 1) := dk_42 (dk_at dksX6_some_0 0 rfl rfl)
theorem dX6_some_1 : decode cX6_some 1 = .ok (.invokevirtual 184, 3) := dk_182 0 184 (dk_at dksX6_some_0 1 rfl rfl)
theorem dX6_some_4 : decode cX6_some 4 = .ok (.istore_n 1, 1) := dk_60 (dk_at dksX6_some_0 4 rfl rfl)
theorem dX6_some_5 : decode cX6_some 5 = .ok (.aload_n 0, 1) := dk_42 (dk_at dksX6_some_0 5 rfl rfl)
theorem dX6_some_6 : decode cX6_some 6 = .ok (.getfield 22, 3) := dk_180 0 22 (dk_at dksX6_some_0 6 rfl rfl)
theorem dX6_some_9 : decode cX6_some 9 = .ok (.iconst (-1), 1) := dk_2 (dk_at dksX6_some_0 9 rfl rfl)
theorem dX6_some_10 : decode cX6_some 10 = .ok (.if_icmp .ne 34, 3) := dk_160 0 34 (dk_at dksX6_some_0 10 rfl rfl)
theorem dX6_some_13 : decode cX6_some 13 = .ok (.aload_n 0, 1) := dk_42 (dk_at dksX6_some_0 13 rfl rfl)
theorem dX6_some_14 : decode cX6_some 14 = .ok (.ldc 187, 2) := dk_18 187 (dk_at dksX6_some_0 14 rfl rfl)
theorem dX6_some_16 : decode cX6_some 16 = .ok (.invokevirtual 81, 3) := dk_182 0 81 (dk_at dksX6_some_0 16 rfl rfl)
theorem dX6_some_19 : decode cX6_some 19 = .ok (.ifCond .eq 25, 3) := dk_153 0 25 (dk_at dksX6_some_0 19 rfl rfl)
theorem dX6_some_22 : decode cX6_some 22 = .ok (.aload_n 0, 1) := dk_42 (dk_at dksX6_some_0 22 rfl rfl)
theorem dX6_some_23 : decode cX6_some 23 = .ok (.invokevirtual 184, 3) := dk_182 0 184 (dk_at dksX6_some_1 0 rfl rfl)
theorem dX6_some_26 : decode cX6_some 26 = .ok (.istore_n 2, 1) := dk_61 (dk_at dksX6_some_1 3 rfl rfl)
theorem dX6_some_27 : decode cX6_some 27 = .ok (.iload_n 1, 1) := dk_27 (dk_at dksX6_some_1 4 rfl rfl)
theorem dX6_some_28 : decode cX6_some 28 = .ok (.ifCond .ne 7, 3) := dk_154 0 7 (dk_at dksX6_some_1 5 rfl rfl)
theorem dX6_some_31 : decode cX6_some 31 = .ok (.iload_n 2, 1) := dk_28 (dk_at dksX6_some_1 8 rfl rfl)
theorem dX6_some_32 : decode cX6_some 32 = .ok (.ifCond .eq 7, 3) := dk_153 0 7 (dk_at dksX6_some_1 9 rfl rfl)
theorem dX6_some_35 : decode cX6_some 35 = .ok (.iconst 1, 1) := dk_4 (dk_at dksX6_some_1 12 rfl rfl)
theorem dX6_some_36 : decode cX6_some 36 = .ok (.goto 4, 3) := dk_167 0 4 (dk_at dksX6_some_1 13 rfl rfl)
theorem dX6_some_39 : decode cX6_some 39 = .ok (.iconst 0, 1) := dk_3 (dk_at dksX6_some_1 16 rfl rfl)
theorem dX6_some_40 : decode cX6_some 40 = .ok (.istore_n 1, 1) := dk_60 (dk_at dksX6_some_1 17 rfl rfl)
theorem dX6_some_41 : decode cX6_some 41 = .ok (.goto (-36), 3) := dk_167 255 220 (dk_at dksX6_some_1 18 rfl rfl)
theorem dX6_some_44 : decode cX6_some 44 = .ok (.iload_n 1, 1) := dk_27 (dk_at dksX6_some_1 21 rfl rfl)
theorem dX6_some_45 : decode cX6_some 45 = .ok (.ireturn, 1) := dk_172 (dk_at dksX6_some_1 22 rfl rfl)
abbrev cX6_every : ByteArray := prog_23_method_28_code
def yX6_every : MethodName := ⟨RX6, "every", "()Z"⟩
def dkwX6_every_1 : List UInt8 := [182, 0, 176, 61, 27, 153, 0, 11, 28, 153, 0, 7, 4, 167, 0, 4, 3, 60, 167, 255, 220, 27, 172]
abbrev dktX6_every_1 : List UInt8 := dkwX6_every_1 ++ []
def dkwX6_every_0 : List UInt8 := [42, 182, 0, 176, 60, 42, 180, 0, 22, 2, 160, 0, 34, 42, 18, 182, 182, 0, 81, 153, 0, 25, 42]
abbrev dktX6_every_0 : List UInt8 := dkwX6_every_0 ++ dktX6_every_1
theorem dksX6_every_0 : cX6_every.data.toList.drop 0 = dktX6_every_0 := by decide +kernel
theorem dksX6_every_1 : cX6_every.data.toList.drop 23 = dktX6_every_1 := dk_seg dksX6_every_0 23 rfl rfl
theorem dX6_every_0 : decode cX6_every 0 = .ok (.aload_n 0, 1) := dk_42 (dk_at dksX6_every_0 0 rfl rfl)
theorem dX6_every_1 : decode cX6_every 1 = .ok (.invokevirtual 176, 3) := dk_182 0 176 (dk_at dksX6_every_0 1 rfl rfl)
theorem dX6_every_4 : decode cX6_every 4 = .ok (.istore_n 1, 1) := dk_60 (dk_at dksX6_every_0 4 rfl rfl)
theorem dX6_every_5 : decode cX6_every 5 = .ok (.aload_n 0, 1) := dk_42 (dk_at dksX6_every_0 5 rfl rfl)
theorem dX6_every_6 : decode cX6_every 6 = .ok (.getfield 22, 3) := dk_180 0 22 (dk_at dksX6_every_0 6 rfl rfl)
theorem dX6_every_9 : decode cX6_every 9 = .ok (.iconst (-1), 1) := dk_2 (dk_at dksX6_every_0 9 rfl rfl)
theorem dX6_every_10 : decode cX6_every 10 = .ok (.if_icmp .ne 34, 3) := dk_160 0 34 (dk_at dksX6_every_0 10 rfl rfl)
theorem dX6_every_13 : decode cX6_every 13 = .ok (.aload_n 0, 1) := dk_42 (dk_at dksX6_every_0 13 rfl rfl)
theorem dX6_every_14 : decode cX6_every 14 = .ok (.ldc 182, 2) := dk_18 182 (dk_at dksX6_every_0 14 rfl rfl)
theorem dX6_every_16 : decode cX6_every 16 = .ok (.invokevirtual 81, 3) := dk_182 0 81 (dk_at dksX6_every_0 16 rfl rfl)
theorem dX6_every_19 : decode cX6_every 19 = .ok (.ifCond .eq 25, 3) := dk_153 0 25 (dk_at dksX6_every_0 19 rfl rfl)
theorem dX6_every_22 : decode cX6_every 22 = .ok (.aload_n 0, 1) := dk_42 (dk_at dksX6_every_0 22 rfl rfl)
theorem dX6_every_23 : decode cX6_every 23 = .ok (.invokevirtual 176, 3) := dk_182 0 176 (dk_at dksX6_every_1 0 rfl rfl)
theorem dX6_every_26 : decode cX6_every 26 = .ok (.istore_n 2, 1) := dk_61 (dk_at dksX6_every_1 3 rfl rfl)
theorem dX6_every_27 : decode cX6_every 27 = .ok (.iload_n 1, 1) := dk_27 (dk_at dksX6_every_1 4 rfl rfl)
theorem dX6_every_28 : decode cX6_every 28 = .ok (.ifCond .eq 11, 3) := dk_153 0 11 (dk_at dksX6_every_1 5 rfl rfl)
theorem dX6_every_31 : decode cX6_every 31 = .ok (.iload_n 2, 1) := dk_28 (dk_at dksX6_every_1 8 rfl rfl)
theorem dX6_every_32 : decode cX6_every 32 = .ok (.ifCond .eq 7, 3) := dk_153 0 7 (dk_at dksX6_every_1 9 rfl rfl)
theorem dX6_every_35 : decode cX6_every 35 = .ok (.iconst 1, 1) := dk_4 (dk_at dksX6_every_1 12 rfl rfl)
theorem dX6_every_36 : decode cX6_every 36 = .ok (.goto 4, 3) := dk_167 0 4 (dk_at dksX6_every_1 13 rfl rfl)
theorem dX6_every_39 : decode cX6_every 39 = .ok (.iconst 0, 1) := dk_3 (dk_at dksX6_every_1 16 rfl rfl)
theorem dX6_every_40 : decode cX6_every 40 = .ok (.istore_n 1, 1) := dk_60 (dk_at dksX6_every_1 17 rfl rfl)
theorem dX6_every_41 : decode cX6_every 41 = .ok (.goto (-36), 3) := dk_167 255 220 (dk_at dksX6_every_1 18 rfl rfl)
theorem dX6_every_44 : decode cX6_every 44 = .ok (.iload_n 1, 1) := dk_27 (dk_at dksX6_every_1 21 rfl rfl)
theorem dX6_every_45 : decode cX6_every 45 = .ok (.ireturn, 1) := dk_172 (dk_at dksX6_every_1 22 rfl rfl)
abbrev cX6_atom : ByteArray := prog_23_method_27_code
def yX6_atom : MethodName := ⟨RX6, "atom", "()Z"⟩
def dkwX6_atom_6 : List UInt8 := [180, 0, 54, 4, 96, 181, 0, 54, 42, 89, 180, 0, 122, 4, 100, 181, 0, 122, 29, 172]
abbrev dktX6_atom_6 : List UInt8 := dkwX6_atom_6 ++ []
def dkwX6_atom_5 : List UInt8 := [160, 0, 20, 42, 16, 41, 182, 0, 131, 154, 0, 11, 42, 42, 180, 0, 54, 182, 0, 77, 42, 89]
abbrev dktX6_atom_5 : List UInt8 := dkwX6_atom_5 ++ dktX6_atom_6
def dkwX6_atom_4 : List UInt8 := [167, 0, 53, 42, 89, 180, 0, 54, 4, 96, 181, 0, 54, 42, 182, 0, 179, 62, 42, 180, 0, 22, 2]
abbrev dktX6_atom_4 : List UInt8 := dkwX6_atom_4 ++ dktX6_atom_5
def dkwX6_atom_3 : List UInt8 := [181, 0, 122, 3, 62, 28, 153, 0, 19, 42, 182, 0, 176, 154, 0, 7, 4, 167, 0, 4, 3, 62]
abbrev dktX6_atom_3 : List UInt8 := dkwX6_atom_3 ++ dktX6_atom_4
def dkwX6_atom_2 : List UInt8 := [180, 0, 122, 16, 6, 160, 0, 10, 42, 27, 182, 0, 77, 3, 172, 42, 89, 180, 0, 122, 4, 96]
abbrev dktX6_atom_2 : List UInt8 := dkwX6_atom_2 ++ dktX6_atom_3
def dkwX6_atom_1 : List UInt8 := [182, 0, 81, 61, 28, 154, 0, 17, 42, 16, 40, 182, 0, 131, 154, 0, 8, 42, 182, 0, 172, 172, 42]
abbrev dktX6_atom_1 : List UInt8 := dkwX6_atom_1 ++ dktX6_atom_2
def dkwX6_atom_0 : List UInt8 := [42, 180, 0, 22, 2, 159, 0, 5, 3, 172, 42, 182, 0, 64, 42, 180, 0, 54, 60, 42, 18, 170]
abbrev dktX6_atom_0 : List UInt8 := dkwX6_atom_0 ++ dktX6_atom_1
theorem dksX6_atom_0 : cX6_atom.data.toList.drop 0 = dktX6_atom_0 := by decide +kernel
theorem dksX6_atom_1 : cX6_atom.data.toList.drop 22 = dktX6_atom_1 := dk_seg dksX6_atom_0 22 rfl rfl
theorem dksX6_atom_2 : cX6_atom.data.toList.drop 45 = dktX6_atom_2 := dk_seg dksX6_atom_1 23 rfl rfl
theorem dksX6_atom_3 : cX6_atom.data.toList.drop 67 = dktX6_atom_3 := dk_seg dksX6_atom_2 22 rfl rfl
theorem dksX6_atom_4 : cX6_atom.data.toList.drop 89 = dktX6_atom_4 := dk_seg dksX6_atom_3 22 rfl rfl
theorem dksX6_atom_5 : cX6_atom.data.toList.drop 112 = dktX6_atom_5 := dk_seg dksX6_atom_4 23 rfl rfl
theorem dksX6_atom_6 : cX6_atom.data.toList.drop 134 = dktX6_atom_6 := dk_seg dksX6_atom_5 22 rfl rfl
theorem dX6_atom_0 : decode cX6_atom 0 = .ok (.aload_n 0, 1) := dk_42 (dk_at dksX6_atom_0 0 rfl rfl)
theorem dX6_atom_1 : decode cX6_atom 1 = .ok (.getfield 22, 3) := dk_180 0 22 (dk_at dksX6_atom_0 1 rfl rfl)
theorem dX6_atom_4 : decode cX6_atom 4 = .ok (.iconst (-1), 1) := dk_2 (dk_at dksX6_atom_0 4 rfl rfl)
theorem dX6_atom_5 : decode cX6_atom 5 = .ok (.if_icmp .eq 5, 3) := dk_159 0 5 (dk_at dksX6_atom_0 5 rfl rfl)
theorem dX6_atom_8 : decode cX6_atom 8 = .ok (.iconst 0, 1) := dk_3 (dk_at dksX6_atom_0 8 rfl rfl)
theorem dX6_atom_9 : decode cX6_atom 9 = .ok (.ireturn, 1) := dk_172 (dk_at dksX6_atom_0 9 rfl rfl)
theorem dX6_atom_10 : decode cX6_atom 10 = .ok (.aload_n 0, 1) := dk_42 (dk_at dksX6_atom_0 10 rfl rfl)
theorem dX6_atom_11 : decode cX6_atom 11 = .ok (.invokevirtual 64, 3) := dk_182 0 64 (dk_at dksX6_atom_0 11 rfl rfl)
theorem dX6_atom_14 : decode cX6_atom 14 = .ok (.aload_n 0, 1) := dk_42 (dk_at dksX6_atom_0 14 rfl rfl)
theorem dX6_atom_15 : decode cX6_atom 15 = .ok (.getfield 54, 3) := dk_180 0 54 (dk_at dksX6_atom_0 15 rfl rfl)
theorem dX6_atom_18 : decode cX6_atom 18 = .ok (.istore_n 1, 1) := dk_60 (dk_at dksX6_atom_0 18 rfl rfl)
theorem dX6_atom_19 : decode cX6_atom 19 = .ok (.aload_n 0, 1) := dk_42 (dk_at dksX6_atom_0 19 rfl rfl)
theorem dX6_atom_20 : decode cX6_atom 20 = .ok (.ldc 170, 2) := dk_18 170 (dk_at dksX6_atom_0 20 rfl rfl)
theorem dX6_atom_22 : decode cX6_atom 22 = .ok (.invokevirtual 81, 3) := dk_182 0 81 (dk_at dksX6_atom_1 0 rfl rfl)
theorem dX6_atom_25 : decode cX6_atom 25 = .ok (.istore_n 2, 1) := dk_61 (dk_at dksX6_atom_1 3 rfl rfl)
theorem dX6_atom_26 : decode cX6_atom 26 = .ok (.iload_n 2, 1) := dk_28 (dk_at dksX6_atom_1 4 rfl rfl)
theorem dX6_atom_27 : decode cX6_atom 27 = .ok (.ifCond .ne 17, 3) := dk_154 0 17 (dk_at dksX6_atom_1 5 rfl rfl)
theorem dX6_atom_30 : decode cX6_atom 30 = .ok (.aload_n 0, 1) := dk_42 (dk_at dksX6_atom_1 8 rfl rfl)
theorem dX6_atom_31 : decode cX6_atom 31 = .ok (.bipush 40, 2) := dk_16 40 (dk_at dksX6_atom_1 9 rfl rfl)
theorem dX6_atom_33 : decode cX6_atom 33 = .ok (.invokevirtual 131, 3) := dk_182 0 131 (dk_at dksX6_atom_1 11 rfl rfl)
theorem dX6_atom_36 : decode cX6_atom 36 = .ok (.ifCond .ne 8, 3) := dk_154 0 8 (dk_at dksX6_atom_1 14 rfl rfl)
theorem dX6_atom_39 : decode cX6_atom 39 = .ok (.aload_n 0, 1) := dk_42 (dk_at dksX6_atom_1 17 rfl rfl)
theorem dX6_atom_40 : decode cX6_atom 40 = .ok (.invokevirtual 172, 3) := dk_182 0 172 (dk_at dksX6_atom_1 18 rfl rfl)
theorem dX6_atom_43 : decode cX6_atom 43 = .ok (.ireturn, 1) := dk_172 (dk_at dksX6_atom_1 21 rfl rfl)
theorem dX6_atom_44 : decode cX6_atom 44 = .ok (.aload_n 0, 1) := dk_42 (dk_at dksX6_atom_1 22 rfl rfl)
theorem dX6_atom_45 : decode cX6_atom 45 = .ok (.getfield 122, 3) := dk_180 0 122 (dk_at dksX6_atom_2 0 rfl rfl)
theorem dX6_atom_48 : decode cX6_atom 48 = .ok (.bipush 6, 2) := dk_16 6 (dk_at dksX6_atom_2 3 rfl rfl)
theorem dX6_atom_50 : decode cX6_atom 50 = .ok (.if_icmp .ne 10, 3) := dk_160 0 10 (dk_at dksX6_atom_2 5 rfl rfl)
theorem dX6_atom_53 : decode cX6_atom 53 = .ok (.aload_n 0, 1) := dk_42 (dk_at dksX6_atom_2 8 rfl rfl)
theorem dX6_atom_54 : decode cX6_atom 54 = .ok (.iload_n 1, 1) := dk_27 (dk_at dksX6_atom_2 9 rfl rfl)
theorem dX6_atom_55 : decode cX6_atom 55 = .ok (.invokevirtual 77, 3) := dk_182 0 77 (dk_at dksX6_atom_2 10 rfl rfl)
theorem dX6_atom_58 : decode cX6_atom 58 = .ok (.iconst 0, 1) := dk_3 (dk_at dksX6_atom_2 13 rfl rfl)
theorem dX6_atom_59 : decode cX6_atom 59 = .ok (.ireturn, 1) := dk_172 (dk_at dksX6_atom_2 14 rfl rfl)
theorem dX6_atom_60 : decode cX6_atom 60 = .ok (.aload_n 0, 1) := dk_42 (dk_at dksX6_atom_2 15 rfl rfl)
theorem dX6_atom_61 : decode cX6_atom 61 = .ok (.dup, 1) := dk_89 (dk_at dksX6_atom_2 16 rfl rfl)
theorem dX6_atom_62 : decode cX6_atom 62 = .ok (.getfield 122, 3) := dk_180 0 122 (dk_at dksX6_atom_2 17 rfl rfl)
theorem dX6_atom_65 : decode cX6_atom 65 = .ok (.iconst 1, 1) := dk_4 (dk_at dksX6_atom_2 20 rfl rfl)
theorem dX6_atom_66 : decode cX6_atom 66 = .ok (.iadd, 1) := dk_96 (dk_at dksX6_atom_2 21 rfl rfl)
theorem dX6_atom_67 : decode cX6_atom 67 = .ok (.putfield 122, 3) := dk_181 0 122 (dk_at dksX6_atom_3 0 rfl rfl)
theorem dX6_atom_70 : decode cX6_atom 70 = .ok (.iconst 0, 1) := dk_3 (dk_at dksX6_atom_3 3 rfl rfl)
theorem dX6_atom_71 : decode cX6_atom 71 = .ok (.istore_n 3, 1) := dk_62 (dk_at dksX6_atom_3 4 rfl rfl)
theorem dX6_atom_72 : decode cX6_atom 72 = .ok (.iload_n 2, 1) := dk_28 (dk_at dksX6_atom_3 5 rfl rfl)
theorem dX6_atom_73 : decode cX6_atom 73 = .ok (.ifCond .eq 19, 3) := dk_153 0 19 (dk_at dksX6_atom_3 6 rfl rfl)
theorem dX6_atom_76 : decode cX6_atom 76 = .ok (.aload_n 0, 1) := dk_42 (dk_at dksX6_atom_3 9 rfl rfl)
theorem dX6_atom_77 : decode cX6_atom 77 = .ok (.invokevirtual 176, 3) := dk_182 0 176 (dk_at dksX6_atom_3 10 rfl rfl)
theorem dX6_atom_80 : decode cX6_atom 80 = .ok (.ifCond .ne 7, 3) := dk_154 0 7 (dk_at dksX6_atom_3 13 rfl rfl)
theorem dX6_atom_83 : decode cX6_atom 83 = .ok (.iconst 1, 1) := dk_4 (dk_at dksX6_atom_3 16 rfl rfl)
theorem dX6_atom_84 : decode cX6_atom 84 = .ok (.goto 4, 3) := dk_167 0 4 (dk_at dksX6_atom_3 17 rfl rfl)
theorem dX6_atom_87 : decode cX6_atom 87 = .ok (.iconst 0, 1) := dk_3 (dk_at dksX6_atom_3 20 rfl rfl)
theorem dX6_atom_88 : decode cX6_atom 88 = .ok (.istore_n 3, 1) := dk_62 (dk_at dksX6_atom_3 21 rfl rfl)
theorem dX6_atom_89 : decode cX6_atom 89 = .ok (.goto 53, 3) := dk_167 0 53 (dk_at dksX6_atom_4 0 rfl rfl)
theorem dX6_atom_92 : decode cX6_atom 92 = .ok (.aload_n 0, 1) := dk_42 (dk_at dksX6_atom_4 3 rfl rfl)
theorem dX6_atom_93 : decode cX6_atom 93 = .ok (.dup, 1) := dk_89 (dk_at dksX6_atom_4 4 rfl rfl)
theorem dX6_atom_94 : decode cX6_atom 94 = .ok (.getfield 54, 3) := dk_180 0 54 (dk_at dksX6_atom_4 5 rfl rfl)
theorem dX6_atom_97 : decode cX6_atom 97 = .ok (.iconst 1, 1) := dk_4 (dk_at dksX6_atom_4 8 rfl rfl)
theorem dX6_atom_98 : decode cX6_atom 98 = .ok (.iadd, 1) := dk_96 (dk_at dksX6_atom_4 9 rfl rfl)
theorem dX6_atom_99 : decode cX6_atom 99 = .ok (.putfield 54, 3) := dk_181 0 54 (dk_at dksX6_atom_4 10 rfl rfl)
theorem dX6_atom_102 : decode cX6_atom 102 = .ok (.aload_n 0, 1) := dk_42 (dk_at dksX6_atom_4 13 rfl rfl)
theorem dX6_atom_103 : decode cX6_atom 103 = .ok (.invokevirtual 179, 3) := dk_182 0 179 (dk_at dksX6_atom_4 14 rfl rfl)
theorem dX6_atom_106 : decode cX6_atom 106 = .ok (.istore_n 3, 1) := dk_62 (dk_at dksX6_atom_4 17 rfl rfl)
theorem dX6_atom_107 : decode cX6_atom 107 = .ok (.aload_n 0, 1) := dk_42 (dk_at dksX6_atom_4 18 rfl rfl)
theorem dX6_atom_108 : decode cX6_atom 108 = .ok (.getfield 22, 3) := dk_180 0 22 (dk_at dksX6_atom_4 19 rfl rfl)
theorem dX6_atom_111 : decode cX6_atom 111 = .ok (.iconst (-1), 1) := dk_2 (dk_at dksX6_atom_4 22 rfl rfl)
theorem dX6_atom_112 : decode cX6_atom 112 = .ok (.if_icmp .ne 20, 3) := dk_160 0 20 (dk_at dksX6_atom_5 0 rfl rfl)
theorem dX6_atom_115 : decode cX6_atom 115 = .ok (.aload_n 0, 1) := dk_42 (dk_at dksX6_atom_5 3 rfl rfl)
theorem dX6_atom_116 : decode cX6_atom 116 = .ok (.bipush 41, 2) := dk_16 41 (dk_at dksX6_atom_5 4 rfl rfl)
theorem dX6_atom_118 : decode cX6_atom 118 = .ok (.invokevirtual 131, 3) := dk_182 0 131 (dk_at dksX6_atom_5 6 rfl rfl)
theorem dX6_atom_121 : decode cX6_atom 121 = .ok (.ifCond .ne 11, 3) := dk_154 0 11 (dk_at dksX6_atom_5 9 rfl rfl)
theorem dX6_atom_124 : decode cX6_atom 124 = .ok (.aload_n 0, 1) := dk_42 (dk_at dksX6_atom_5 12 rfl rfl)
theorem dX6_atom_125 : decode cX6_atom 125 = .ok (.aload_n 0, 1) := dk_42 (dk_at dksX6_atom_5 13 rfl rfl)
theorem dX6_atom_126 : decode cX6_atom 126 = .ok (.getfield 54, 3) := dk_180 0 54 (dk_at dksX6_atom_5 14 rfl rfl)
theorem dX6_atom_129 : decode cX6_atom 129 = .ok (.invokevirtual 77, 3) := dk_182 0 77 (dk_at dksX6_atom_5 17 rfl rfl)
theorem dX6_atom_132 : decode cX6_atom 132 = .ok (.aload_n 0, 1) := dk_42 (dk_at dksX6_atom_5 20 rfl rfl)
theorem dX6_atom_133 : decode cX6_atom 133 = .ok (.dup, 1) := dk_89 (dk_at dksX6_atom_5 21 rfl rfl)
theorem dX6_atom_134 : decode cX6_atom 134 = .ok (.getfield 54, 3) := dk_180 0 54 (dk_at dksX6_atom_6 0 rfl rfl)
theorem dX6_atom_137 : decode cX6_atom 137 = .ok (.iconst 1, 1) := dk_4 (dk_at dksX6_atom_6 3 rfl rfl)
theorem dX6_atom_138 : decode cX6_atom 138 = .ok (.iadd, 1) := dk_96 (dk_at dksX6_atom_6 4 rfl rfl)
theorem dX6_atom_139 : decode cX6_atom 139 = .ok (.putfield 54, 3) := dk_181 0 54 (dk_at dksX6_atom_6 5 rfl rfl)
theorem dX6_atom_142 : decode cX6_atom 142 = .ok (.aload_n 0, 1) := dk_42 (dk_at dksX6_atom_6 8 rfl rfl)
theorem dX6_atom_143 : decode cX6_atom 143 = .ok (.dup, 1) := dk_89 (dk_at dksX6_atom_6 9 rfl rfl)
theorem dX6_atom_144 : decode cX6_atom 144 = .ok (.getfield 122, 3) := dk_180 0 122 (dk_at dksX6_atom_6 10 rfl rfl)
theorem dX6_atom_147 : decode cX6_atom 147 = .ok (.iconst 1, 1) := dk_4 (dk_at dksX6_atom_6 13 rfl rfl)
theorem dX6_atom_148 : decode cX6_atom 148 = .ok (.isub, 1) := dk_100 (dk_at dksX6_atom_6 14 rfl rfl)
theorem dX6_atom_149 : decode cX6_atom 149 = .ok (.putfield 122, 3) := dk_181 0 122 (dk_at dksX6_atom_6 15 rfl rfl)
theorem dX6_atom_152 : decode cX6_atom 152 = .ok (.iload_n 3, 1) := dk_29 (dk_at dksX6_atom_6 18 rfl rfl)
theorem dX6_atom_153 : decode cX6_atom 153 = .ok (.ireturn, 1) := dk_172 (dk_at dksX6_atom_6 19 rfl rfl)
abbrev cX6_isSign : ByteArray := prog_23_method_14_code
def yX6_isSign : MethodName := ⟨RX6, "isSign", "(I)Z"⟩
def dkwX6_isSign_1 : List UInt8 := [160, 0, 7, 4, 167, 0, 4, 3, 172]
abbrev dktX6_isSign_1 : List UInt8 := dkwX6_isSign_1 ++ []
def dkwX6_isSign_0 : List UInt8 := [42, 182, 0, 64, 42, 180, 0, 54, 42, 180, 0, 57, 162, 0, 19, 42, 42, 180, 0, 54, 182, 0, 60, 27]
abbrev dktX6_isSign_0 : List UInt8 := dkwX6_isSign_0 ++ dktX6_isSign_1
theorem dksX6_isSign_0 : cX6_isSign.data.toList.drop 0 = dktX6_isSign_0 := by decide +kernel
theorem dksX6_isSign_1 : cX6_isSign.data.toList.drop 24 = dktX6_isSign_1 := dk_seg dksX6_isSign_0 24 rfl rfl
theorem dX6_isSign_0 : decode cX6_isSign 0 = .ok (.aload_n 0, 1) := dk_42 (dk_at dksX6_isSign_0 0 rfl rfl)
theorem dX6_isSign_1 : decode cX6_isSign 1 = .ok (.invokevirtual 64, 3) := dk_182 0 64 (dk_at dksX6_isSign_0 1 rfl rfl)
theorem dX6_isSign_4 : decode cX6_isSign 4 = .ok (.aload_n 0, 1) := dk_42 (dk_at dksX6_isSign_0 4 rfl rfl)
theorem dX6_isSign_5 : decode cX6_isSign 5 = .ok (.getfield 54, 3) := dk_180 0 54 (dk_at dksX6_isSign_0 5 rfl rfl)
theorem dX6_isSign_8 : decode cX6_isSign 8 = .ok (.aload_n 0, 1) := dk_42 (dk_at dksX6_isSign_0 8 rfl rfl)
theorem dX6_isSign_9 : decode cX6_isSign 9 = .ok (.getfield 57, 3) := dk_180 0 57 (dk_at dksX6_isSign_0 9 rfl rfl)
theorem dX6_isSign_12 : decode cX6_isSign 12 = .ok (.if_icmp .ge 19, 3) := dk_162 0 19 (dk_at dksX6_isSign_0 12 rfl rfl)
theorem dX6_isSign_15 : decode cX6_isSign 15 = .ok (.aload_n 0, 1) := dk_42 (dk_at dksX6_isSign_0 15 rfl rfl)
theorem dX6_isSign_16 : decode cX6_isSign 16 = .ok (.aload_n 0, 1) := dk_42 (dk_at dksX6_isSign_0 16 rfl rfl)
theorem dX6_isSign_17 : decode cX6_isSign 17 = .ok (.getfield 54, 3) := dk_180 0 54 (dk_at dksX6_isSign_0 17 rfl rfl)
theorem dX6_isSign_20 : decode cX6_isSign 20 = .ok (.invokevirtual 60, 3) := dk_182 0 60 (dk_at dksX6_isSign_0 20 rfl rfl)
theorem dX6_isSign_23 : decode cX6_isSign 23 = .ok (.iload_n 1, 1) := dk_27 (dk_at dksX6_isSign_0 23 rfl rfl)
theorem dX6_isSign_24 : decode cX6_isSign 24 = .ok (.if_icmp .ne 7, 3) := dk_160 0 7 (dk_at dksX6_isSign_1 0 rfl rfl)
theorem dX6_isSign_27 : decode cX6_isSign 27 = .ok (.iconst 1, 1) := dk_4 (dk_at dksX6_isSign_1 3 rfl rfl)
theorem dX6_isSign_28 : decode cX6_isSign 28 = .ok (.goto 4, 3) := dk_167 0 4 (dk_at dksX6_isSign_1 4 rfl rfl)
theorem dX6_isSign_31 : decode cX6_isSign 31 = .ok (.iconst 0, 1) := dk_3 (dk_at dksX6_isSign_1 7 rfl rfl)
theorem dX6_isSign_32 : decode cX6_isSign 32 = .ok (.ireturn, 1) := dk_172 (dk_at dksX6_isSign_1 8 rfl rfl)
abbrev cX6_plain : ByteArray := prog_23_method_26_code
def yX6_plain : MethodName := ⟨RX6, "plain", "()Z"⟩
def dkwX6_plain_8 : List UInt8 := [27, 29, 162, 0, 7, 4, 167, 0, 17, 3, 167, 0, 13, 27, 29, 164, 0, 7, 4, 167, 0, 4, 3, 172]
abbrev dktX6_plain_8 : List UInt8 := dkwX6_plain_8 ++ []
def dkwX6_plain_7 : List UInt8 := [182, 0, 77, 3, 172, 42, 89, 180, 0, 54, 4, 96, 181, 0, 54, 42, 182, 0, 167, 62, 28, 153, 0, 16]
abbrev dktX6_plain_7 : List UInt8 := dkwX6_plain_7 ++ dktX6_plain_8
def dkwX6_plain_6 : List UInt8 := [182, 0, 131, 61, 28, 154, 0, 22, 42, 16, 62, 182, 0, 131, 154, 0, 13, 42, 42, 180, 0, 54]
abbrev dktX6_plain_6 : List UInt8 := dkwX6_plain_6 ++ dktX6_plain_7
def dkwX6_plain_5 : List UInt8 := [180, 0, 164, 172, 42, 182, 0, 167, 60, 42, 180, 0, 22, 2, 159, 0, 5, 3, 172, 42, 16, 60]
abbrev dktX6_plain_5 : List UInt8 := dkwX6_plain_5 ++ dktX6_plain_6
def dkwX6_plain_4 : List UInt8 := [18, 156, 182, 0, 81, 153, 0, 8, 42, 180, 0, 158, 172, 42, 18, 162, 182, 0, 81, 153, 0, 8, 42]
abbrev dktX6_plain_4 : List UInt8 := dkwX6_plain_4 ++ dktX6_plain_5
def dkwX6_plain_3 : List UInt8 := [18, 110, 182, 0, 81, 153, 0, 17, 42, 180, 0, 153, 6, 160, 0, 7, 4, 167, 0, 4, 3, 172, 42]
abbrev dktX6_plain_3 : List UInt8 := dkwX6_plain_3 ++ dktX6_plain_4
def dkwX6_plain_2 : List UInt8 := [18, 108, 182, 0, 81, 153, 0, 17, 42, 180, 0, 153, 5, 160, 0, 7, 4, 167, 0, 4, 3, 172, 42]
abbrev dktX6_plain_2 : List UInt8 := dkwX6_plain_2 ++ dktX6_plain_3
def dkwX6_plain_1 : List UInt8 := [18, 106, 182, 0, 81, 153, 0, 17, 42, 180, 0, 153, 4, 160, 0, 7, 4, 167, 0, 4, 3, 172, 42]
abbrev dktX6_plain_1 : List UInt8 := dkwX6_plain_1 ++ dktX6_plain_2
def dkwX6_plain_0 : List UInt8 := [42, 18, 100, 182, 0, 81, 153, 0, 16, 42, 180, 0, 153, 154, 0, 7, 4, 167, 0, 4, 3, 172, 42]
abbrev dktX6_plain_0 : List UInt8 := dkwX6_plain_0 ++ dktX6_plain_1
theorem dksX6_plain_0 : cX6_plain.data.toList.drop 0 = dktX6_plain_0 := by decide +kernel
theorem dksX6_plain_1 : cX6_plain.data.toList.drop 23 = dktX6_plain_1 := dk_seg dksX6_plain_0 23 rfl rfl
theorem dksX6_plain_2 : cX6_plain.data.toList.drop 46 = dktX6_plain_2 := dk_seg dksX6_plain_1 23 rfl rfl
theorem dksX6_plain_3 : cX6_plain.data.toList.drop 69 = dktX6_plain_3 := dk_seg dksX6_plain_2 23 rfl rfl
theorem dksX6_plain_4 : cX6_plain.data.toList.drop 92 = dktX6_plain_4 := dk_seg dksX6_plain_3 23 rfl rfl
theorem dksX6_plain_5 : cX6_plain.data.toList.drop 115 = dktX6_plain_5 := dk_seg dksX6_plain_4 23 rfl rfl
theorem dksX6_plain_6 : cX6_plain.data.toList.drop 137 = dktX6_plain_6 := dk_seg dksX6_plain_5 22 rfl rfl
theorem dksX6_plain_7 : cX6_plain.data.toList.drop 159 = dktX6_plain_7 := dk_seg dksX6_plain_6 22 rfl rfl
theorem dksX6_plain_8 : cX6_plain.data.toList.drop 183 = dktX6_plain_8 := dk_seg dksX6_plain_7 24 rfl rfl
theorem dX6_plain_0 : decode cX6_plain 0 = .ok (.aload_n 0, 1) := dk_42 (dk_at dksX6_plain_0 0 rfl rfl)
theorem dX6_plain_1 : decode cX6_plain 1 = .ok (.ldc 100, 2) := dk_18 100 (dk_at dksX6_plain_0 1 rfl rfl)
theorem dX6_plain_3 : decode cX6_plain 3 = .ok (.invokevirtual 81, 3) := dk_182 0 81 (dk_at dksX6_plain_0 3 rfl rfl)
theorem dX6_plain_6 : decode cX6_plain 6 = .ok (.ifCond .eq 16, 3) := dk_153 0 16 (dk_at dksX6_plain_0 6 rfl rfl)
theorem dX6_plain_9 : decode cX6_plain 9 = .ok (.aload_n 0, 1) := dk_42 (dk_at dksX6_plain_0 9 rfl rfl)
theorem dX6_plain_10 : decode cX6_plain 10 = .ok (.getfield 153, 3) := dk_180 0 153 (dk_at dksX6_plain_0 10 rfl rfl)
theorem dX6_plain_13 : decode cX6_plain 13 = .ok (.ifCond .ne 7, 3) := dk_154 0 7 (dk_at dksX6_plain_0 13 rfl rfl)
theorem dX6_plain_16 : decode cX6_plain 16 = .ok (.iconst 1, 1) := dk_4 (dk_at dksX6_plain_0 16 rfl rfl)
theorem dX6_plain_17 : decode cX6_plain 17 = .ok (.goto 4, 3) := dk_167 0 4 (dk_at dksX6_plain_0 17 rfl rfl)
theorem dX6_plain_20 : decode cX6_plain 20 = .ok (.iconst 0, 1) := dk_3 (dk_at dksX6_plain_0 20 rfl rfl)
theorem dX6_plain_21 : decode cX6_plain 21 = .ok (.ireturn, 1) := dk_172 (dk_at dksX6_plain_0 21 rfl rfl)
theorem dX6_plain_22 : decode cX6_plain 22 = .ok (.aload_n 0, 1) := dk_42 (dk_at dksX6_plain_0 22 rfl rfl)
theorem dX6_plain_23 : decode cX6_plain 23 = .ok (.ldc 106, 2) := dk_18 106 (dk_at dksX6_plain_1 0 rfl rfl)
theorem dX6_plain_25 : decode cX6_plain 25 = .ok (.invokevirtual 81, 3) := dk_182 0 81 (dk_at dksX6_plain_1 2 rfl rfl)
theorem dX6_plain_28 : decode cX6_plain 28 = .ok (.ifCond .eq 17, 3) := dk_153 0 17 (dk_at dksX6_plain_1 5 rfl rfl)
theorem dX6_plain_31 : decode cX6_plain 31 = .ok (.aload_n 0, 1) := dk_42 (dk_at dksX6_plain_1 8 rfl rfl)
theorem dX6_plain_32 : decode cX6_plain 32 = .ok (.getfield 153, 3) := dk_180 0 153 (dk_at dksX6_plain_1 9 rfl rfl)
theorem dX6_plain_35 : decode cX6_plain 35 = .ok (.iconst 1, 1) := dk_4 (dk_at dksX6_plain_1 12 rfl rfl)
theorem dX6_plain_36 : decode cX6_plain 36 = .ok (.if_icmp .ne 7, 3) := dk_160 0 7 (dk_at dksX6_plain_1 13 rfl rfl)
theorem dX6_plain_39 : decode cX6_plain 39 = .ok (.iconst 1, 1) := dk_4 (dk_at dksX6_plain_1 16 rfl rfl)
theorem dX6_plain_40 : decode cX6_plain 40 = .ok (.goto 4, 3) := dk_167 0 4 (dk_at dksX6_plain_1 17 rfl rfl)
theorem dX6_plain_43 : decode cX6_plain 43 = .ok (.iconst 0, 1) := dk_3 (dk_at dksX6_plain_1 20 rfl rfl)
theorem dX6_plain_44 : decode cX6_plain 44 = .ok (.ireturn, 1) := dk_172 (dk_at dksX6_plain_1 21 rfl rfl)
theorem dX6_plain_45 : decode cX6_plain 45 = .ok (.aload_n 0, 1) := dk_42 (dk_at dksX6_plain_1 22 rfl rfl)
theorem dX6_plain_46 : decode cX6_plain 46 = .ok (.ldc 108, 2) := dk_18 108 (dk_at dksX6_plain_2 0 rfl rfl)
theorem dX6_plain_48 : decode cX6_plain 48 = .ok (.invokevirtual 81, 3) := dk_182 0 81 (dk_at dksX6_plain_2 2 rfl rfl)
theorem dX6_plain_51 : decode cX6_plain 51 = .ok (.ifCond .eq 17, 3) := dk_153 0 17 (dk_at dksX6_plain_2 5 rfl rfl)
theorem dX6_plain_54 : decode cX6_plain 54 = .ok (.aload_n 0, 1) := dk_42 (dk_at dksX6_plain_2 8 rfl rfl)
theorem dX6_plain_55 : decode cX6_plain 55 = .ok (.getfield 153, 3) := dk_180 0 153 (dk_at dksX6_plain_2 9 rfl rfl)
theorem dX6_plain_58 : decode cX6_plain 58 = .ok (.iconst 2, 1) := dk_5 (dk_at dksX6_plain_2 12 rfl rfl)
theorem dX6_plain_59 : decode cX6_plain 59 = .ok (.if_icmp .ne 7, 3) := dk_160 0 7 (dk_at dksX6_plain_2 13 rfl rfl)
theorem dX6_plain_62 : decode cX6_plain 62 = .ok (.iconst 1, 1) := dk_4 (dk_at dksX6_plain_2 16 rfl rfl)
theorem dX6_plain_63 : decode cX6_plain 63 = .ok (.goto 4, 3) := dk_167 0 4 (dk_at dksX6_plain_2 17 rfl rfl)
theorem dX6_plain_66 : decode cX6_plain 66 = .ok (.iconst 0, 1) := dk_3 (dk_at dksX6_plain_2 20 rfl rfl)
theorem dX6_plain_67 : decode cX6_plain 67 = .ok (.ireturn, 1) := dk_172 (dk_at dksX6_plain_2 21 rfl rfl)
theorem dX6_plain_68 : decode cX6_plain 68 = .ok (.aload_n 0, 1) := dk_42 (dk_at dksX6_plain_2 22 rfl rfl)
theorem dX6_plain_69 : decode cX6_plain 69 = .ok (.ldc 110, 2) := dk_18 110 (dk_at dksX6_plain_3 0 rfl rfl)
theorem dX6_plain_71 : decode cX6_plain 71 = .ok (.invokevirtual 81, 3) := dk_182 0 81 (dk_at dksX6_plain_3 2 rfl rfl)
theorem dX6_plain_74 : decode cX6_plain 74 = .ok (.ifCond .eq 17, 3) := dk_153 0 17 (dk_at dksX6_plain_3 5 rfl rfl)
theorem dX6_plain_77 : decode cX6_plain 77 = .ok (.aload_n 0, 1) := dk_42 (dk_at dksX6_plain_3 8 rfl rfl)
theorem dX6_plain_78 : decode cX6_plain 78 = .ok (.getfield 153, 3) := dk_180 0 153 (dk_at dksX6_plain_3 9 rfl rfl)
theorem dX6_plain_81 : decode cX6_plain 81 = .ok (.iconst 3, 1) := dk_6 (dk_at dksX6_plain_3 12 rfl rfl)
theorem dX6_plain_82 : decode cX6_plain 82 = .ok (.if_icmp .ne 7, 3) := dk_160 0 7 (dk_at dksX6_plain_3 13 rfl rfl)
theorem dX6_plain_85 : decode cX6_plain 85 = .ok (.iconst 1, 1) := dk_4 (dk_at dksX6_plain_3 16 rfl rfl)
theorem dX6_plain_86 : decode cX6_plain 86 = .ok (.goto 4, 3) := dk_167 0 4 (dk_at dksX6_plain_3 17 rfl rfl)
theorem dX6_plain_89 : decode cX6_plain 89 = .ok (.iconst 0, 1) := dk_3 (dk_at dksX6_plain_3 20 rfl rfl)
theorem dX6_plain_90 : decode cX6_plain 90 = .ok (.ireturn, 1) := dk_172 (dk_at dksX6_plain_3 21 rfl rfl)
theorem dX6_plain_91 : decode cX6_plain 91 = .ok (.aload_n 0, 1) := dk_42 (dk_at dksX6_plain_3 22 rfl rfl)
theorem dX6_plain_92 : decode cX6_plain 92 = .ok (.ldc 156, 2) := dk_18 156 (dk_at dksX6_plain_4 0 rfl rfl)
theorem dX6_plain_94 : decode cX6_plain 94 = .ok (.invokevirtual 81, 3) := dk_182 0 81 (dk_at dksX6_plain_4 2 rfl rfl)
theorem dX6_plain_97 : decode cX6_plain 97 = .ok (.ifCond .eq 8, 3) := dk_153 0 8 (dk_at dksX6_plain_4 5 rfl rfl)
theorem dX6_plain_100 : decode cX6_plain 100 = .ok (.aload_n 0, 1) := dk_42 (dk_at dksX6_plain_4 8 rfl rfl)
theorem dX6_plain_101 : decode cX6_plain 101 = .ok (.getfield 158, 3) := dk_180 0 158 (dk_at dksX6_plain_4 9 rfl rfl)
theorem dX6_plain_104 : decode cX6_plain 104 = .ok (.ireturn, 1) := dk_172 (dk_at dksX6_plain_4 12 rfl rfl)
theorem dX6_plain_105 : decode cX6_plain 105 = .ok (.aload_n 0, 1) := dk_42 (dk_at dksX6_plain_4 13 rfl rfl)
theorem dX6_plain_106 : decode cX6_plain 106 = .ok (.ldc 162, 2) := dk_18 162 (dk_at dksX6_plain_4 14 rfl rfl)
theorem dX6_plain_108 : decode cX6_plain 108 = .ok (.invokevirtual 81, 3) := dk_182 0 81 (dk_at dksX6_plain_4 16 rfl rfl)
theorem dX6_plain_111 : decode cX6_plain 111 = .ok (.ifCond .eq 8, 3) := dk_153 0 8 (dk_at dksX6_plain_4 19 rfl rfl)
theorem dX6_plain_114 : decode cX6_plain 114 = .ok (.aload_n 0, 1) := dk_42 (dk_at dksX6_plain_4 22 rfl rfl)
theorem dX6_plain_115 : decode cX6_plain 115 = .ok (.getfield 164, 3) := dk_180 0 164 (dk_at dksX6_plain_5 0 rfl rfl)
theorem dX6_plain_118 : decode cX6_plain 118 = .ok (.ireturn, 1) := dk_172 (dk_at dksX6_plain_5 3 rfl rfl)
theorem dX6_plain_119 : decode cX6_plain 119 = .ok (.aload_n 0, 1) := dk_42 (dk_at dksX6_plain_5 4 rfl rfl)
theorem dX6_plain_120 : decode cX6_plain 120 = .ok (.invokevirtual 167, 3) := dk_182 0 167 (dk_at dksX6_plain_5 5 rfl rfl)
theorem dX6_plain_123 : decode cX6_plain 123 = .ok (.istore_n 1, 1) := dk_60 (dk_at dksX6_plain_5 8 rfl rfl)
theorem dX6_plain_124 : decode cX6_plain 124 = .ok (.aload_n 0, 1) := dk_42 (dk_at dksX6_plain_5 9 rfl rfl)
theorem dX6_plain_125 : decode cX6_plain 125 = .ok (.getfield 22, 3) := dk_180 0 22 (dk_at dksX6_plain_5 10 rfl rfl)
theorem dX6_plain_128 : decode cX6_plain 128 = .ok (.iconst (-1), 1) := dk_2 (dk_at dksX6_plain_5 13 rfl rfl)
theorem dX6_plain_129 : decode cX6_plain 129 = .ok (.if_icmp .eq 5, 3) := dk_159 0 5 (dk_at dksX6_plain_5 14 rfl rfl)
theorem dX6_plain_132 : decode cX6_plain 132 = .ok (.iconst 0, 1) := dk_3 (dk_at dksX6_plain_5 17 rfl rfl)
theorem dX6_plain_133 : decode cX6_plain 133 = .ok (.ireturn, 1) := dk_172 (dk_at dksX6_plain_5 18 rfl rfl)
theorem dX6_plain_134 : decode cX6_plain 134 = .ok (.aload_n 0, 1) := dk_42 (dk_at dksX6_plain_5 19 rfl rfl)
theorem dX6_plain_135 : decode cX6_plain 135 = .ok (.bipush 60, 2) := dk_16 60 (dk_at dksX6_plain_5 20 rfl rfl)
theorem dX6_plain_137 : decode cX6_plain 137 = .ok (.invokevirtual 131, 3) := dk_182 0 131 (dk_at dksX6_plain_6 0 rfl rfl)
theorem dX6_plain_140 : decode cX6_plain 140 = .ok (.istore_n 2, 1) := dk_61 (dk_at dksX6_plain_6 3 rfl rfl)
theorem dX6_plain_141 : decode cX6_plain 141 = .ok (.iload_n 2, 1) := dk_28 (dk_at dksX6_plain_6 4 rfl rfl)
theorem dX6_plain_142 : decode cX6_plain 142 = .ok (.ifCond .ne 22, 3) := dk_154 0 22 (dk_at dksX6_plain_6 5 rfl rfl)
theorem dX6_plain_145 : decode cX6_plain 145 = .ok (.aload_n 0, 1) := dk_42 (dk_at dksX6_plain_6 8 rfl rfl)
theorem dX6_plain_146 : decode cX6_plain 146 = .ok (.bipush 62, 2) := dk_16 62 (dk_at dksX6_plain_6 9 rfl rfl)
theorem dX6_plain_148 : decode cX6_plain 148 = .ok (.invokevirtual 131, 3) := dk_182 0 131 (dk_at dksX6_plain_6 11 rfl rfl)
theorem dX6_plain_151 : decode cX6_plain 151 = .ok (.ifCond .ne 13, 3) := dk_154 0 13 (dk_at dksX6_plain_6 14 rfl rfl)
theorem dX6_plain_154 : decode cX6_plain 154 = .ok (.aload_n 0, 1) := dk_42 (dk_at dksX6_plain_6 17 rfl rfl)
theorem dX6_plain_155 : decode cX6_plain 155 = .ok (.aload_n 0, 1) := dk_42 (dk_at dksX6_plain_6 18 rfl rfl)
theorem dX6_plain_156 : decode cX6_plain 156 = .ok (.getfield 54, 3) := dk_180 0 54 (dk_at dksX6_plain_6 19 rfl rfl)
theorem dX6_plain_159 : decode cX6_plain 159 = .ok (.invokevirtual 77, 3) := dk_182 0 77 (dk_at dksX6_plain_7 0 rfl rfl)
theorem dX6_plain_162 : decode cX6_plain 162 = .ok (.iconst 0, 1) := dk_3 (dk_at dksX6_plain_7 3 rfl rfl)
theorem dX6_plain_163 : decode cX6_plain 163 = .ok (.ireturn, 1) := dk_172 (dk_at dksX6_plain_7 4 rfl rfl)
theorem dX6_plain_164 : decode cX6_plain 164 = .ok (.aload_n 0, 1) := dk_42 (dk_at dksX6_plain_7 5 rfl rfl)
theorem dX6_plain_165 : decode cX6_plain 165 = .ok (.dup, 1) := dk_89 (dk_at dksX6_plain_7 6 rfl rfl)
theorem dX6_plain_166 : decode cX6_plain 166 = .ok (.getfield 54, 3) := dk_180 0 54 (dk_at dksX6_plain_7 7 rfl rfl)
theorem dX6_plain_169 : decode cX6_plain 169 = .ok (.iconst 1, 1) := dk_4 (dk_at dksX6_plain_7 10 rfl rfl)
theorem dX6_plain_170 : decode cX6_plain 170 = .ok (.iadd, 1) := dk_96 (dk_at dksX6_plain_7 11 rfl rfl)
theorem dX6_plain_171 : decode cX6_plain 171 = .ok (.putfield 54, 3) := dk_181 0 54 (dk_at dksX6_plain_7 12 rfl rfl)
theorem dX6_plain_174 : decode cX6_plain 174 = .ok (.aload_n 0, 1) := dk_42 (dk_at dksX6_plain_7 15 rfl rfl)
theorem dX6_plain_175 : decode cX6_plain 175 = .ok (.invokevirtual 167, 3) := dk_182 0 167 (dk_at dksX6_plain_7 16 rfl rfl)
theorem dX6_plain_178 : decode cX6_plain 178 = .ok (.istore_n 3, 1) := dk_62 (dk_at dksX6_plain_7 19 rfl rfl)
theorem dX6_plain_179 : decode cX6_plain 179 = .ok (.iload_n 2, 1) := dk_28 (dk_at dksX6_plain_7 20 rfl rfl)
theorem dX6_plain_180 : decode cX6_plain 180 = .ok (.ifCond .eq 16, 3) := dk_153 0 16 (dk_at dksX6_plain_7 21 rfl rfl)
theorem dX6_plain_183 : decode cX6_plain 183 = .ok (.iload_n 1, 1) := dk_27 (dk_at dksX6_plain_8 0 rfl rfl)
theorem dX6_plain_184 : decode cX6_plain 184 = .ok (.iload_n 3, 1) := dk_29 (dk_at dksX6_plain_8 1 rfl rfl)
theorem dX6_plain_185 : decode cX6_plain 185 = .ok (.if_icmp .ge 7, 3) := dk_162 0 7 (dk_at dksX6_plain_8 2 rfl rfl)
theorem dX6_plain_188 : decode cX6_plain 188 = .ok (.iconst 1, 1) := dk_4 (dk_at dksX6_plain_8 5 rfl rfl)
theorem dX6_plain_189 : decode cX6_plain 189 = .ok (.goto 17, 3) := dk_167 0 17 (dk_at dksX6_plain_8 6 rfl rfl)
theorem dX6_plain_192 : decode cX6_plain 192 = .ok (.iconst 0, 1) := dk_3 (dk_at dksX6_plain_8 9 rfl rfl)
theorem dX6_plain_193 : decode cX6_plain 193 = .ok (.goto 13, 3) := dk_167 0 13 (dk_at dksX6_plain_8 10 rfl rfl)
theorem dX6_plain_196 : decode cX6_plain 196 = .ok (.iload_n 1, 1) := dk_27 (dk_at dksX6_plain_8 13 rfl rfl)
theorem dX6_plain_197 : decode cX6_plain 197 = .ok (.iload_n 3, 1) := dk_29 (dk_at dksX6_plain_8 14 rfl rfl)
theorem dX6_plain_198 : decode cX6_plain 198 = .ok (.if_icmp .le 7, 3) := dk_164 0 7 (dk_at dksX6_plain_8 15 rfl rfl)
theorem dX6_plain_201 : decode cX6_plain 201 = .ok (.iconst 1, 1) := dk_4 (dk_at dksX6_plain_8 18 rfl rfl)
theorem dX6_plain_202 : decode cX6_plain 202 = .ok (.goto 4, 3) := dk_167 0 4 (dk_at dksX6_plain_8 19 rfl rfl)
theorem dX6_plain_205 : decode cX6_plain 205 = .ok (.iconst 0, 1) := dk_3 (dk_at dksX6_plain_8 22 rfl rfl)
theorem dX6_plain_206 : decode cX6_plain 206 = .ok (.ireturn, 1) := dk_172 (dk_at dksX6_plain_8 23 rfl rfl)
abbrev cX6_sum : ByteArray := prog_23_method_25_code
def yX6_sum : MethodName := ⟨RX6, "sum", "()I"⟩
def dkwX6_sum_1 : List UInt8 := [180, 0, 54, 4, 96, 181, 0, 54, 27, 42, 182, 0, 150, 96, 60, 167, 255, 222, 27, 172]
abbrev dktX6_sum_1 : List UInt8 := dkwX6_sum_1 ++ []
def dkwX6_sum_0 : List UInt8 := [42, 182, 0, 150, 60, 42, 180, 0, 22, 2, 160, 0, 32, 42, 16, 43, 182, 0, 131, 153, 0, 23, 42, 89]
abbrev dktX6_sum_0 : List UInt8 := dkwX6_sum_0 ++ dktX6_sum_1
theorem dksX6_sum_0 : cX6_sum.data.toList.drop 0 = dktX6_sum_0 := by decide +kernel
theorem dksX6_sum_1 : cX6_sum.data.toList.drop 24 = dktX6_sum_1 := dk_seg dksX6_sum_0 24 rfl rfl
theorem dX6_sum_0 : decode cX6_sum 0 = .ok (.aload_n 0, 1) := dk_42 (dk_at dksX6_sum_0 0 rfl rfl)
theorem dX6_sum_1 : decode cX6_sum 1 = .ok (.invokevirtual 150, 3) := dk_182 0 150 (dk_at dksX6_sum_0 1 rfl rfl)
theorem dX6_sum_4 : decode cX6_sum 4 = .ok (.istore_n 1, 1) := dk_60 (dk_at dksX6_sum_0 4 rfl rfl)
theorem dX6_sum_5 : decode cX6_sum 5 = .ok (.aload_n 0, 1) := dk_42 (dk_at dksX6_sum_0 5 rfl rfl)
theorem dX6_sum_6 : decode cX6_sum 6 = .ok (.getfield 22, 3) := dk_180 0 22 (dk_at dksX6_sum_0 6 rfl rfl)
theorem dX6_sum_9 : decode cX6_sum 9 = .ok (.iconst (-1), 1) := dk_2 (dk_at dksX6_sum_0 9 rfl rfl)
theorem dX6_sum_10 : decode cX6_sum 10 = .ok (.if_icmp .ne 32, 3) := dk_160 0 32 (dk_at dksX6_sum_0 10 rfl rfl)
theorem dX6_sum_13 : decode cX6_sum 13 = .ok (.aload_n 0, 1) := dk_42 (dk_at dksX6_sum_0 13 rfl rfl)
theorem dX6_sum_14 : decode cX6_sum 14 = .ok (.bipush 43, 2) := dk_16 43 (dk_at dksX6_sum_0 14 rfl rfl)
theorem dX6_sum_16 : decode cX6_sum 16 = .ok (.invokevirtual 131, 3) := dk_182 0 131 (dk_at dksX6_sum_0 16 rfl rfl)
theorem dX6_sum_19 : decode cX6_sum 19 = .ok (.ifCond .eq 23, 3) := dk_153 0 23 (dk_at dksX6_sum_0 19 rfl rfl)
theorem dX6_sum_22 : decode cX6_sum 22 = .ok (.aload_n 0, 1) := dk_42 (dk_at dksX6_sum_0 22 rfl rfl)
theorem dX6_sum_23 : decode cX6_sum 23 = .ok (.dup, 1) := dk_89 (dk_at dksX6_sum_0 23 rfl rfl)
theorem dX6_sum_24 : decode cX6_sum 24 = .ok (.getfield 54, 3) := dk_180 0 54 (dk_at dksX6_sum_1 0 rfl rfl)
theorem dX6_sum_27 : decode cX6_sum 27 = .ok (.iconst 1, 1) := dk_4 (dk_at dksX6_sum_1 3 rfl rfl)
theorem dX6_sum_28 : decode cX6_sum 28 = .ok (.iadd, 1) := dk_96 (dk_at dksX6_sum_1 4 rfl rfl)
theorem dX6_sum_29 : decode cX6_sum 29 = .ok (.putfield 54, 3) := dk_181 0 54 (dk_at dksX6_sum_1 5 rfl rfl)
theorem dX6_sum_32 : decode cX6_sum 32 = .ok (.iload_n 1, 1) := dk_27 (dk_at dksX6_sum_1 8 rfl rfl)
theorem dX6_sum_33 : decode cX6_sum 33 = .ok (.aload_n 0, 1) := dk_42 (dk_at dksX6_sum_1 9 rfl rfl)
theorem dX6_sum_34 : decode cX6_sum 34 = .ok (.invokevirtual 150, 3) := dk_182 0 150 (dk_at dksX6_sum_1 10 rfl rfl)
theorem dX6_sum_37 : decode cX6_sum 37 = .ok (.iadd, 1) := dk_96 (dk_at dksX6_sum_1 13 rfl rfl)
theorem dX6_sum_38 : decode cX6_sum 38 = .ok (.istore_n 1, 1) := dk_60 (dk_at dksX6_sum_1 14 rfl rfl)
theorem dX6_sum_39 : decode cX6_sum 39 = .ok (.goto (-34), 3) := dk_167 255 222 (dk_at dksX6_sum_1 15 rfl rfl)
theorem dX6_sum_42 : decode cX6_sum 42 = .ok (.iload_n 1, 1) := dk_27 (dk_at dksX6_sum_1 18 rfl rfl)
theorem dX6_sum_43 : decode cX6_sum 43 = .ok (.ireturn, 1) := dk_172 (dk_at dksX6_sum_1 19 rfl rfl)
abbrev cX6_part : ByteArray := prog_23_method_24_code
def yX6_part : MethodName := ⟨RX6, "part", "()I"⟩
def dkwX6_part_5 : List UInt8 := [182, 0, 77, 3, 172, 42, 180, 0, 26, 27, 46, 172]
abbrev dktX6_part_5 : List UInt8 := dkwX6_part_5 ++ []
def dkwX6_part_4 : List UInt8 := [18, 148, 182, 0, 81, 153, 0, 7, 6, 167, 0, 4, 2, 60, 27, 2, 160, 0, 13, 42, 42, 180, 0, 54]
abbrev dktX6_part_4 : List UInt8 := dkwX6_part_4 ++ dktX6_part_5
def dkwX6_part_3 : List UInt8 := [182, 0, 81, 153, 0, 7, 4, 167, 0, 30, 42, 18, 146, 182, 0, 81, 153, 0, 7, 5, 167, 0, 17, 42]
abbrev dktX6_part_3 : List UInt8 := dkwX6_part_3 ++ dktX6_part_4
def dkwX6_part_2 : List UInt8 := [17, 3, 231, 6, 182, 0, 85, 172, 42, 18, 142, 182, 0, 81, 153, 0, 7, 3, 167, 0, 43, 42, 18, 144]
abbrev dktX6_part_2 : List UInt8 := dkwX6_part_2 ++ dktX6_part_3
def dkwX6_part_1 : List UInt8 := [162, 0, 31, 42, 42, 180, 0, 54, 182, 0, 60, 16, 48, 16, 57, 184, 0, 44, 153, 0, 13, 42, 3]
abbrev dktX6_part_1 : List UInt8 := dkwX6_part_1 ++ dktX6_part_2
def dkwX6_part_0 : List UInt8 := [42, 180, 0, 22, 2, 159, 0, 5, 3, 172, 42, 182, 0, 64, 42, 180, 0, 54, 42, 180, 0, 57]
abbrev dktX6_part_0 : List UInt8 := dkwX6_part_0 ++ dktX6_part_1
theorem dksX6_part_0 : cX6_part.data.toList.drop 0 = dktX6_part_0 := by decide +kernel
theorem dksX6_part_1 : cX6_part.data.toList.drop 22 = dktX6_part_1 := dk_seg dksX6_part_0 22 rfl rfl
theorem dksX6_part_2 : cX6_part.data.toList.drop 45 = dktX6_part_2 := dk_seg dksX6_part_1 23 rfl rfl
theorem dksX6_part_3 : cX6_part.data.toList.drop 69 = dktX6_part_3 := dk_seg dksX6_part_2 24 rfl rfl
theorem dksX6_part_4 : cX6_part.data.toList.drop 93 = dktX6_part_4 := dk_seg dksX6_part_3 24 rfl rfl
theorem dksX6_part_5 : cX6_part.data.toList.drop 117 = dktX6_part_5 := dk_seg dksX6_part_4 24 rfl rfl
theorem dX6_part_0 : decode cX6_part 0 = .ok (.aload_n 0, 1) := dk_42 (dk_at dksX6_part_0 0 rfl rfl)
theorem dX6_part_1 : decode cX6_part 1 = .ok (.getfield 22, 3) := dk_180 0 22 (dk_at dksX6_part_0 1 rfl rfl)
theorem dX6_part_4 : decode cX6_part 4 = .ok (.iconst (-1), 1) := dk_2 (dk_at dksX6_part_0 4 rfl rfl)
theorem dX6_part_5 : decode cX6_part 5 = .ok (.if_icmp .eq 5, 3) := dk_159 0 5 (dk_at dksX6_part_0 5 rfl rfl)
theorem dX6_part_8 : decode cX6_part 8 = .ok (.iconst 0, 1) := dk_3 (dk_at dksX6_part_0 8 rfl rfl)
theorem dX6_part_9 : decode cX6_part 9 = .ok (.ireturn, 1) := dk_172 (dk_at dksX6_part_0 9 rfl rfl)
theorem dX6_part_10 : decode cX6_part 10 = .ok (.aload_n 0, 1) := dk_42 (dk_at dksX6_part_0 10 rfl rfl)
theorem dX6_part_11 : decode cX6_part 11 = .ok (.invokevirtual 64, 3) := dk_182 0 64 (dk_at dksX6_part_0 11 rfl rfl)
theorem dX6_part_14 : decode cX6_part 14 = .ok (.aload_n 0, 1) := dk_42 (dk_at dksX6_part_0 14 rfl rfl)
theorem dX6_part_15 : decode cX6_part 15 = .ok (.getfield 54, 3) := dk_180 0 54 (dk_at dksX6_part_0 15 rfl rfl)
theorem dX6_part_18 : decode cX6_part 18 = .ok (.aload_n 0, 1) := dk_42 (dk_at dksX6_part_0 18 rfl rfl)
theorem dX6_part_19 : decode cX6_part 19 = .ok (.getfield 57, 3) := dk_180 0 57 (dk_at dksX6_part_0 19 rfl rfl)
theorem dX6_part_22 : decode cX6_part 22 = .ok (.if_icmp .ge 31, 3) := dk_162 0 31 (dk_at dksX6_part_1 0 rfl rfl)
theorem dX6_part_25 : decode cX6_part 25 = .ok (.aload_n 0, 1) := dk_42 (dk_at dksX6_part_1 3 rfl rfl)
theorem dX6_part_26 : decode cX6_part 26 = .ok (.aload_n 0, 1) := dk_42 (dk_at dksX6_part_1 4 rfl rfl)
theorem dX6_part_27 : decode cX6_part 27 = .ok (.getfield 54, 3) := dk_180 0 54 (dk_at dksX6_part_1 5 rfl rfl)
theorem dX6_part_30 : decode cX6_part 30 = .ok (.invokevirtual 60, 3) := dk_182 0 60 (dk_at dksX6_part_1 8 rfl rfl)
theorem dX6_part_33 : decode cX6_part 33 = .ok (.bipush 48, 2) := dk_16 48 (dk_at dksX6_part_1 11 rfl rfl)
theorem dX6_part_35 : decode cX6_part 35 = .ok (.bipush 57, 2) := dk_16 57 (dk_at dksX6_part_1 13 rfl rfl)
theorem dX6_part_37 : decode cX6_part 37 = .ok (.invokestatic 44, 3) := dk_184 0 44 (dk_at dksX6_part_1 15 rfl rfl)
theorem dX6_part_40 : decode cX6_part 40 = .ok (.ifCond .eq 13, 3) := dk_153 0 13 (dk_at dksX6_part_1 18 rfl rfl)
theorem dX6_part_43 : decode cX6_part 43 = .ok (.aload_n 0, 1) := dk_42 (dk_at dksX6_part_1 21 rfl rfl)
theorem dX6_part_44 : decode cX6_part 44 = .ok (.iconst 0, 1) := dk_3 (dk_at dksX6_part_1 22 rfl rfl)
theorem dX6_part_45 : decode cX6_part 45 = .ok (.sipush 999, 3) := dk_17 3 231 (dk_at dksX6_part_2 0 rfl rfl)
theorem dX6_part_48 : decode cX6_part 48 = .ok (.iconst 3, 1) := dk_6 (dk_at dksX6_part_2 3 rfl rfl)
theorem dX6_part_49 : decode cX6_part 49 = .ok (.invokevirtual 85, 3) := dk_182 0 85 (dk_at dksX6_part_2 4 rfl rfl)
theorem dX6_part_52 : decode cX6_part 52 = .ok (.ireturn, 1) := dk_172 (dk_at dksX6_part_2 7 rfl rfl)
theorem dX6_part_53 : decode cX6_part 53 = .ok (.aload_n 0, 1) := dk_42 (dk_at dksX6_part_2 8 rfl rfl)
theorem dX6_part_54 : decode cX6_part 54 = .ok (.ldc 142, 2) := dk_18 142 (dk_at dksX6_part_2 9 rfl rfl)
theorem dX6_part_56 : decode cX6_part 56 = .ok (.invokevirtual 81, 3) := dk_182 0 81 (dk_at dksX6_part_2 11 rfl rfl)
theorem dX6_part_59 : decode cX6_part 59 = .ok (.ifCond .eq 7, 3) := dk_153 0 7 (dk_at dksX6_part_2 14 rfl rfl)
theorem dX6_part_62 : decode cX6_part 62 = .ok (.iconst 0, 1) := dk_3 (dk_at dksX6_part_2 17 rfl rfl)
theorem dX6_part_63 : decode cX6_part 63 = .ok (.goto 43, 3) := dk_167 0 43 (dk_at dksX6_part_2 18 rfl rfl)
theorem dX6_part_66 : decode cX6_part 66 = .ok (.aload_n 0, 1) := dk_42 (dk_at dksX6_part_2 21 rfl rfl)
theorem dX6_part_67 : decode cX6_part 67 = .ok (.ldc 144, 2) := dk_18 144 (dk_at dksX6_part_2 22 rfl rfl)
theorem dX6_part_69 : decode cX6_part 69 = .ok (.invokevirtual 81, 3) := dk_182 0 81 (dk_at dksX6_part_3 0 rfl rfl)
theorem dX6_part_72 : decode cX6_part 72 = .ok (.ifCond .eq 7, 3) := dk_153 0 7 (dk_at dksX6_part_3 3 rfl rfl)
theorem dX6_part_75 : decode cX6_part 75 = .ok (.iconst 1, 1) := dk_4 (dk_at dksX6_part_3 6 rfl rfl)
theorem dX6_part_76 : decode cX6_part 76 = .ok (.goto 30, 3) := dk_167 0 30 (dk_at dksX6_part_3 7 rfl rfl)
theorem dX6_part_79 : decode cX6_part 79 = .ok (.aload_n 0, 1) := dk_42 (dk_at dksX6_part_3 10 rfl rfl)
theorem dX6_part_80 : decode cX6_part 80 = .ok (.ldc 146, 2) := dk_18 146 (dk_at dksX6_part_3 11 rfl rfl)
theorem dX6_part_82 : decode cX6_part 82 = .ok (.invokevirtual 81, 3) := dk_182 0 81 (dk_at dksX6_part_3 13 rfl rfl)
theorem dX6_part_85 : decode cX6_part 85 = .ok (.ifCond .eq 7, 3) := dk_153 0 7 (dk_at dksX6_part_3 16 rfl rfl)
theorem dX6_part_88 : decode cX6_part 88 = .ok (.iconst 2, 1) := dk_5 (dk_at dksX6_part_3 19 rfl rfl)
theorem dX6_part_89 : decode cX6_part 89 = .ok (.goto 17, 3) := dk_167 0 17 (dk_at dksX6_part_3 20 rfl rfl)
theorem dX6_part_92 : decode cX6_part 92 = .ok (.aload_n 0, 1) := dk_42 (dk_at dksX6_part_3 23 rfl rfl)
theorem dX6_part_93 : decode cX6_part 93 = .ok (.ldc 148, 2) := dk_18 148 (dk_at dksX6_part_4 0 rfl rfl)
theorem dX6_part_95 : decode cX6_part 95 = .ok (.invokevirtual 81, 3) := dk_182 0 81 (dk_at dksX6_part_4 2 rfl rfl)
theorem dX6_part_98 : decode cX6_part 98 = .ok (.ifCond .eq 7, 3) := dk_153 0 7 (dk_at dksX6_part_4 5 rfl rfl)
theorem dX6_part_101 : decode cX6_part 101 = .ok (.iconst 3, 1) := dk_6 (dk_at dksX6_part_4 8 rfl rfl)
theorem dX6_part_102 : decode cX6_part 102 = .ok (.goto 4, 3) := dk_167 0 4 (dk_at dksX6_part_4 9 rfl rfl)
theorem dX6_part_105 : decode cX6_part 105 = .ok (.iconst (-1), 1) := dk_2 (dk_at dksX6_part_4 12 rfl rfl)
theorem dX6_part_106 : decode cX6_part 106 = .ok (.istore_n 1, 1) := dk_60 (dk_at dksX6_part_4 13 rfl rfl)
theorem dX6_part_107 : decode cX6_part 107 = .ok (.iload_n 1, 1) := dk_27 (dk_at dksX6_part_4 14 rfl rfl)
theorem dX6_part_108 : decode cX6_part 108 = .ok (.iconst (-1), 1) := dk_2 (dk_at dksX6_part_4 15 rfl rfl)
theorem dX6_part_109 : decode cX6_part 109 = .ok (.if_icmp .ne 13, 3) := dk_160 0 13 (dk_at dksX6_part_4 16 rfl rfl)
theorem dX6_part_112 : decode cX6_part 112 = .ok (.aload_n 0, 1) := dk_42 (dk_at dksX6_part_4 19 rfl rfl)
theorem dX6_part_113 : decode cX6_part 113 = .ok (.aload_n 0, 1) := dk_42 (dk_at dksX6_part_4 20 rfl rfl)
theorem dX6_part_114 : decode cX6_part 114 = .ok (.getfield 54, 3) := dk_180 0 54 (dk_at dksX6_part_4 21 rfl rfl)
theorem dX6_part_117 : decode cX6_part 117 = .ok (.invokevirtual 77, 3) := dk_182 0 77 (dk_at dksX6_part_5 0 rfl rfl)
theorem dX6_part_120 : decode cX6_part 120 = .ok (.iconst 0, 1) := dk_3 (dk_at dksX6_part_5 3 rfl rfl)
theorem dX6_part_121 : decode cX6_part 121 = .ok (.ireturn, 1) := dk_172 (dk_at dksX6_part_5 4 rfl rfl)
theorem dX6_part_122 : decode cX6_part 122 = .ok (.aload_n 0, 1) := dk_42 (dk_at dksX6_part_5 5 rfl rfl)
theorem dX6_part_123 : decode cX6_part 123 = .ok (.getfield 26, 3) := dk_180 0 26 (dk_at dksX6_part_5 6 rfl rfl)
theorem dX6_part_126 : decode cX6_part 126 = .ok (.iload_n 1, 1) := dk_27 (dk_at dksX6_part_5 9 rfl rfl)
theorem dX6_part_127 : decode cX6_part 127 = .ok (.iaload, 1) := dk_46 (dk_at dksX6_part_5 10 rfl rfl)
theorem dX6_part_128 : decode cX6_part 128 = .ok (.ireturn, 1) := dk_172 (dk_at dksX6_part_5 11 rfl rfl)
abbrev cX6_peopleLine : ByteArray := prog_23_method_20_code
def yX6_peopleLine : MethodName := ⟨RX6, "peopleLine", "()V"⟩
def dkwX6_peopleLine_17 : List UInt8 := [46, 4, 96, 79, 167, 0, 11, 42, 42, 180, 0, 54, 182, 0, 77, 177]
abbrev dktX6_peopleLine_17 : List UInt8 := dkwX6_peopleLine_17 ++ []
def dkwX6_peopleLine_16 : List UInt8 := [180, 0, 7, 16, 98, 5, 42, 180, 0, 7, 8, 46, 104, 96, 4, 96, 29, 79, 42, 180, 0, 7, 8, 92]
abbrev dktX6_peopleLine_16 : List UInt8 := dkwX6_peopleLine_16 ++ dktX6_peopleLine_17
def dkwX6_peopleLine_15 : List UInt8 := [2, 159, 0, 4, 177, 42, 180, 0, 7, 16, 98, 5, 42, 180, 0, 7, 8, 46, 104, 96, 28, 79, 42]
abbrev dktX6_peopleLine_15 : List UInt8 := dkwX6_peopleLine_15 ++ dktX6_peopleLine_16
def dkwX6_peopleLine_14 : List UInt8 := [182, 0, 85, 61, 42, 18, 120, 182, 0, 91, 42, 3, 17, 3, 231, 6, 182, 0, 85, 62, 42, 180, 0, 22]
abbrev dktX6_peopleLine_14 : List UInt8 := dkwX6_peopleLine_14 ++ dktX6_peopleLine_15
def dkwX6_peopleLine_13 : List UInt8 := [153, 0, 102, 42, 180, 0, 7, 8, 46, 16, 12, 160, 0, 8, 42, 27, 182, 0, 77, 42, 4, 18, 99, 8]
abbrev dktX6_peopleLine_13 : List UInt8 := dkwX6_peopleLine_13 ++ dktX6_peopleLine_14
def dkwX6_peopleLine_12 : List UInt8 := [180, 0, 7, 16, 7, 42, 3, 6, 6, 182, 0, 85, 79, 167, 0, 119, 42, 18, 118, 182, 0, 81]
abbrev dktX6_peopleLine_12 : List UInt8 := dkwX6_peopleLine_12 ++ dktX6_peopleLine_13
def dkwX6_peopleLine_11 : List UInt8 := [4, 17, 3, 231, 6, 182, 0, 85, 79, 167, 0, 145, 42, 18, 116, 182, 0, 81, 153, 0, 20, 42]
abbrev dktX6_peopleLine_11 : List UInt8 := dkwX6_peopleLine_11 ++ dktX6_peopleLine_12
def dkwX6_peopleLine_10 : List UInt8 := [92, 46, 4, 96, 79, 167, 0, 173, 42, 18, 114, 182, 0, 81, 153, 0, 22, 42, 180, 0, 7, 16, 6, 42]
abbrev dktX6_peopleLine_10 : List UInt8 := dkwX6_peopleLine_10 ++ dktX6_peopleLine_11
def dkwX6_peopleLine_9 : List UInt8 := [79, 42, 180, 0, 7, 29, 4, 96, 3, 79, 42, 180, 0, 7, 29, 5, 96, 3, 79, 42, 180, 0, 7, 6]
abbrev dktX6_peopleLine_9 : List UInt8 := dkwX6_peopleLine_9 ++ dktX6_peopleLine_10
def dkwX6_peopleLine_8 : List UInt8 := [159, 0, 4, 177, 16, 68, 6, 42, 180, 0, 7, 6, 46, 104, 96, 62, 42, 180, 0, 7, 29, 3, 96, 28]
abbrev dktX6_peopleLine_8 : List UInt8 := dkwX6_peopleLine_8 ++ dktX6_peopleLine_9
def dkwX6_peopleLine_7 : List UInt8 := [16, 10, 160, 0, 8, 42, 27, 182, 0, 77, 42, 4, 16, 99, 6, 182, 0, 85, 61, 42, 180, 0, 22, 2]
abbrev dktX6_peopleLine_7 : List UInt8 := dkwX6_peopleLine_7 ++ dktX6_peopleLine_8
def dkwX6_peopleLine_6 : List UInt8 := [42, 6, 27, 182, 0, 102, 167, 1, 12, 42, 18, 112, 182, 0, 81, 153, 0, 89, 42, 180, 0, 7, 6, 46]
abbrev dktX6_peopleLine_6 : List UInt8 := dkwX6_peopleLine_6 ++ dktX6_peopleLine_7
def dkwX6_peopleLine_5 : List UInt8 := [182, 0, 81, 153, 0, 12, 42, 5, 27, 182, 0, 102, 167, 1, 30, 42, 18, 110, 182, 0, 81, 153, 0, 12]
abbrev dktX6_peopleLine_5 : List UInt8 := dkwX6_peopleLine_5 ++ dktX6_peopleLine_6
def dkwX6_peopleLine_4 : List UInt8 := [167, 1, 66, 42, 18, 106, 182, 0, 81, 153, 0, 12, 42, 4, 27, 182, 0, 102, 167, 1, 48, 42, 18, 108]
abbrev dktX6_peopleLine_4 : List UInt8 := dkwX6_peopleLine_4 ++ dktX6_peopleLine_5
def dkwX6_peopleLine_3 : List UInt8 := [92, 46, 4, 96, 79, 167, 1, 84, 42, 18, 100, 182, 0, 81, 153, 0, 12, 42, 3, 27, 182, 0, 102]
abbrev dktX6_peopleLine_3 : List UInt8 := dkwX6_peopleLine_3 ++ dktX6_peopleLine_4
def dkwX6_peopleLine_2 : List UInt8 := [159, 0, 4, 177, 42, 180, 0, 7, 16, 12, 42, 180, 0, 7, 4, 46, 96, 28, 79, 42, 180, 0, 7, 4]
abbrev dktX6_peopleLine_2 : List UInt8 := dkwX6_peopleLine_2 ++ dktX6_peopleLine_3
def dkwX6_peopleLine_1 : List UInt8 := [16, 8, 160, 0, 8, 42, 27, 182, 0, 77, 42, 3, 18, 99, 8, 182, 0, 85, 61, 42, 180, 0, 22, 2]
abbrev dktX6_peopleLine_1 : List UInt8 := dkwX6_peopleLine_1 ++ dktX6_peopleLine_2
def dkwX6_peopleLine_0 : List UInt8 := [42, 182, 0, 64, 42, 180, 0, 54, 60, 42, 18, 97, 182, 0, 81, 153, 0, 65, 42, 180, 0, 7, 4, 46]
abbrev dktX6_peopleLine_0 : List UInt8 := dkwX6_peopleLine_0 ++ dktX6_peopleLine_1
theorem dksX6_peopleLine_0 : cX6_peopleLine.data.toList.drop 0 = dktX6_peopleLine_0 := by decide +kernel
theorem dksX6_peopleLine_1 : cX6_peopleLine.data.toList.drop 24 = dktX6_peopleLine_1 := dk_seg dksX6_peopleLine_0 24 rfl rfl
theorem dksX6_peopleLine_2 : cX6_peopleLine.data.toList.drop 48 = dktX6_peopleLine_2 := dk_seg dksX6_peopleLine_1 24 rfl rfl
theorem dksX6_peopleLine_3 : cX6_peopleLine.data.toList.drop 72 = dktX6_peopleLine_3 := dk_seg dksX6_peopleLine_2 24 rfl rfl
theorem dksX6_peopleLine_4 : cX6_peopleLine.data.toList.drop 95 = dktX6_peopleLine_4 := dk_seg dksX6_peopleLine_3 23 rfl rfl
theorem dksX6_peopleLine_5 : cX6_peopleLine.data.toList.drop 119 = dktX6_peopleLine_5 := dk_seg dksX6_peopleLine_4 24 rfl rfl
theorem dksX6_peopleLine_6 : cX6_peopleLine.data.toList.drop 143 = dktX6_peopleLine_6 := dk_seg dksX6_peopleLine_5 24 rfl rfl
theorem dksX6_peopleLine_7 : cX6_peopleLine.data.toList.drop 167 = dktX6_peopleLine_7 := dk_seg dksX6_peopleLine_6 24 rfl rfl
theorem dksX6_peopleLine_8 : cX6_peopleLine.data.toList.drop 191 = dktX6_peopleLine_8 := dk_seg dksX6_peopleLine_7 24 rfl rfl
theorem dksX6_peopleLine_9 : cX6_peopleLine.data.toList.drop 215 = dktX6_peopleLine_9 := dk_seg dksX6_peopleLine_8 24 rfl rfl
theorem dksX6_peopleLine_10 : cX6_peopleLine.data.toList.drop 239 = dktX6_peopleLine_10 := dk_seg dksX6_peopleLine_9 24 rfl rfl
theorem dksX6_peopleLine_11 : cX6_peopleLine.data.toList.drop 263 = dktX6_peopleLine_11 := dk_seg dksX6_peopleLine_10 24 rfl rfl
theorem dksX6_peopleLine_12 : cX6_peopleLine.data.toList.drop 285 = dktX6_peopleLine_12 := dk_seg dksX6_peopleLine_11 22 rfl rfl
theorem dksX6_peopleLine_13 : cX6_peopleLine.data.toList.drop 307 = dktX6_peopleLine_13 := dk_seg dksX6_peopleLine_12 22 rfl rfl
theorem dksX6_peopleLine_14 : cX6_peopleLine.data.toList.drop 331 = dktX6_peopleLine_14 := dk_seg dksX6_peopleLine_13 24 rfl rfl
theorem dksX6_peopleLine_15 : cX6_peopleLine.data.toList.drop 355 = dktX6_peopleLine_15 := dk_seg dksX6_peopleLine_14 24 rfl rfl
theorem dksX6_peopleLine_16 : cX6_peopleLine.data.toList.drop 378 = dktX6_peopleLine_16 := dk_seg dksX6_peopleLine_15 23 rfl rfl
theorem dksX6_peopleLine_17 : cX6_peopleLine.data.toList.drop 402 = dktX6_peopleLine_17 := dk_seg dksX6_peopleLine_16 24 rfl rfl
theorem dX6_peopleLine_0 : decode cX6_peopleLine 0 = .ok (.aload_n 0, 1) := dk_42 (dk_at dksX6_peopleLine_0 0 rfl rfl)
theorem dX6_peopleLine_1 : decode cX6_peopleLine 1 = .ok (.invokevirtual 64, 3) := dk_182 0 64 (dk_at dksX6_peopleLine_0 1 rfl rfl)
theorem dX6_peopleLine_4 : decode cX6_peopleLine 4 = .ok (.aload_n 0, 1) := dk_42 (dk_at dksX6_peopleLine_0 4 rfl rfl)
theorem dX6_peopleLine_5 : decode cX6_peopleLine 5 = .ok (.getfield 54, 3) := dk_180 0 54 (dk_at dksX6_peopleLine_0 5 rfl rfl)
theorem dX6_peopleLine_8 : decode cX6_peopleLine 8 = .ok (.istore_n 1, 1) := dk_60 (dk_at dksX6_peopleLine_0 8 rfl rfl)
theorem dX6_peopleLine_9 : decode cX6_peopleLine 9 = .ok (.aload_n 0, 1) := dk_42 (dk_at dksX6_peopleLine_0 9 rfl rfl)
theorem dX6_peopleLine_10 : decode cX6_peopleLine 10 = .ok (.ldc 97, 2) := dk_18 97 (dk_at dksX6_peopleLine_0 10 rfl rfl)
theorem dX6_peopleLine_12 : decode cX6_peopleLine 12 = .ok (.invokevirtual 81, 3) := dk_182 0 81 (dk_at dksX6_peopleLine_0 12 rfl rfl)
theorem dX6_peopleLine_15 : decode cX6_peopleLine 15 = .ok (.ifCond .eq 65, 3) := dk_153 0 65 (dk_at dksX6_peopleLine_0 15 rfl rfl)
theorem dX6_peopleLine_18 : decode cX6_peopleLine 18 = .ok (.aload_n 0, 1) := dk_42 (dk_at dksX6_peopleLine_0 18 rfl rfl)
theorem dX6_peopleLine_19 : decode cX6_peopleLine 19 = .ok (.getfield 7, 3) := dk_180 0 7 (dk_at dksX6_peopleLine_0 19 rfl rfl)
theorem dX6_peopleLine_22 : decode cX6_peopleLine 22 = .ok (.iconst 1, 1) := dk_4 (dk_at dksX6_peopleLine_0 22 rfl rfl)
theorem dX6_peopleLine_23 : decode cX6_peopleLine 23 = .ok (.iaload, 1) := dk_46 (dk_at dksX6_peopleLine_0 23 rfl rfl)
theorem dX6_peopleLine_24 : decode cX6_peopleLine 24 = .ok (.bipush 8, 2) := dk_16 8 (dk_at dksX6_peopleLine_1 0 rfl rfl)
theorem dX6_peopleLine_26 : decode cX6_peopleLine 26 = .ok (.if_icmp .ne 8, 3) := dk_160 0 8 (dk_at dksX6_peopleLine_1 2 rfl rfl)
theorem dX6_peopleLine_29 : decode cX6_peopleLine 29 = .ok (.aload_n 0, 1) := dk_42 (dk_at dksX6_peopleLine_1 5 rfl rfl)
theorem dX6_peopleLine_30 : decode cX6_peopleLine 30 = .ok (.iload_n 1, 1) := dk_27 (dk_at dksX6_peopleLine_1 6 rfl rfl)
theorem dX6_peopleLine_31 : decode cX6_peopleLine 31 = .ok (.invokevirtual 77, 3) := dk_182 0 77 (dk_at dksX6_peopleLine_1 7 rfl rfl)
theorem dX6_peopleLine_34 : decode cX6_peopleLine 34 = .ok (.aload_n 0, 1) := dk_42 (dk_at dksX6_peopleLine_1 10 rfl rfl)
theorem dX6_peopleLine_35 : decode cX6_peopleLine 35 = .ok (.iconst 0, 1) := dk_3 (dk_at dksX6_peopleLine_1 11 rfl rfl)
theorem dX6_peopleLine_36 : decode cX6_peopleLine 36 = .ok (.ldc 99, 2) := dk_18 99 (dk_at dksX6_peopleLine_1 12 rfl rfl)
theorem dX6_peopleLine_38 : decode cX6_peopleLine 38 = .ok (.iconst 5, 1) := dk_8 (dk_at dksX6_peopleLine_1 14 rfl rfl)
theorem dX6_peopleLine_39 : decode cX6_peopleLine 39 = .ok (.invokevirtual 85, 3) := dk_182 0 85 (dk_at dksX6_peopleLine_1 15 rfl rfl)
theorem dX6_peopleLine_42 : decode cX6_peopleLine 42 = .ok (.istore_n 2, 1) := dk_61 (dk_at dksX6_peopleLine_1 18 rfl rfl)
theorem dX6_peopleLine_43 : decode cX6_peopleLine 43 = .ok (.aload_n 0, 1) := dk_42 (dk_at dksX6_peopleLine_1 19 rfl rfl)
theorem dX6_peopleLine_44 : decode cX6_peopleLine 44 = .ok (.getfield 22, 3) := dk_180 0 22 (dk_at dksX6_peopleLine_1 20 rfl rfl)
theorem dX6_peopleLine_47 : decode cX6_peopleLine 47 = .ok (.iconst (-1), 1) := dk_2 (dk_at dksX6_peopleLine_1 23 rfl rfl)
theorem dX6_peopleLine_48 : decode cX6_peopleLine 48 = .ok (.if_icmp .eq 4, 3) := dk_159 0 4 (dk_at dksX6_peopleLine_2 0 rfl rfl)
theorem dX6_peopleLine_51 : decode cX6_peopleLine 51 = .ok (.return_, 1) := dk_177 (dk_at dksX6_peopleLine_2 3 rfl rfl)
theorem dX6_peopleLine_52 : decode cX6_peopleLine 52 = .ok (.aload_n 0, 1) := dk_42 (dk_at dksX6_peopleLine_2 4 rfl rfl)
theorem dX6_peopleLine_53 : decode cX6_peopleLine 53 = .ok (.getfield 7, 3) := dk_180 0 7 (dk_at dksX6_peopleLine_2 5 rfl rfl)
theorem dX6_peopleLine_56 : decode cX6_peopleLine 56 = .ok (.bipush 12, 2) := dk_16 12 (dk_at dksX6_peopleLine_2 8 rfl rfl)
theorem dX6_peopleLine_58 : decode cX6_peopleLine 58 = .ok (.aload_n 0, 1) := dk_42 (dk_at dksX6_peopleLine_2 10 rfl rfl)
theorem dX6_peopleLine_59 : decode cX6_peopleLine 59 = .ok (.getfield 7, 3) := dk_180 0 7 (dk_at dksX6_peopleLine_2 11 rfl rfl)
theorem dX6_peopleLine_62 : decode cX6_peopleLine 62 = .ok (.iconst 1, 1) := dk_4 (dk_at dksX6_peopleLine_2 14 rfl rfl)
theorem dX6_peopleLine_63 : decode cX6_peopleLine 63 = .ok (.iaload, 1) := dk_46 (dk_at dksX6_peopleLine_2 15 rfl rfl)
theorem dX6_peopleLine_64 : decode cX6_peopleLine 64 = .ok (.iadd, 1) := dk_96 (dk_at dksX6_peopleLine_2 16 rfl rfl)
theorem dX6_peopleLine_65 : decode cX6_peopleLine 65 = .ok (.iload_n 2, 1) := dk_28 (dk_at dksX6_peopleLine_2 17 rfl rfl)
theorem dX6_peopleLine_66 : decode cX6_peopleLine 66 = .ok (.iastore, 1) := dk_79 (dk_at dksX6_peopleLine_2 18 rfl rfl)
theorem dX6_peopleLine_67 : decode cX6_peopleLine 67 = .ok (.aload_n 0, 1) := dk_42 (dk_at dksX6_peopleLine_2 19 rfl rfl)
theorem dX6_peopleLine_68 : decode cX6_peopleLine 68 = .ok (.getfield 7, 3) := dk_180 0 7 (dk_at dksX6_peopleLine_2 20 rfl rfl)
theorem dX6_peopleLine_71 : decode cX6_peopleLine 71 = .ok (.iconst 1, 1) := dk_4 (dk_at dksX6_peopleLine_2 23 rfl rfl)
theorem dX6_peopleLine_72 : decode cX6_peopleLine 72 = .ok (.dup2, 1) := dk_92 (dk_at dksX6_peopleLine_3 0 rfl rfl)
theorem dX6_peopleLine_73 : decode cX6_peopleLine 73 = .ok (.iaload, 1) := dk_46 (dk_at dksX6_peopleLine_3 1 rfl rfl)
theorem dX6_peopleLine_74 : decode cX6_peopleLine 74 = .ok (.iconst 1, 1) := dk_4 (dk_at dksX6_peopleLine_3 2 rfl rfl)
theorem dX6_peopleLine_75 : decode cX6_peopleLine 75 = .ok (.iadd, 1) := dk_96 (dk_at dksX6_peopleLine_3 3 rfl rfl)
theorem dX6_peopleLine_76 : decode cX6_peopleLine 76 = .ok (.iastore, 1) := dk_79 (dk_at dksX6_peopleLine_3 4 rfl rfl)
theorem dX6_peopleLine_77 : decode cX6_peopleLine 77 = .ok (.goto 340, 3) := dk_167 1 84 (dk_at dksX6_peopleLine_3 5 rfl rfl)
theorem dX6_peopleLine_80 : decode cX6_peopleLine 80 = .ok (.aload_n 0, 1) := dk_42 (dk_at dksX6_peopleLine_3 8 rfl rfl)
theorem dX6_peopleLine_81 : decode cX6_peopleLine 81 = .ok (.ldc 100, 2) := dk_18 100 (dk_at dksX6_peopleLine_3 9 rfl rfl)
theorem dX6_peopleLine_83 : decode cX6_peopleLine 83 = .ok (.invokevirtual 81, 3) := dk_182 0 81 (dk_at dksX6_peopleLine_3 11 rfl rfl)
theorem dX6_peopleLine_86 : decode cX6_peopleLine 86 = .ok (.ifCond .eq 12, 3) := dk_153 0 12 (dk_at dksX6_peopleLine_3 14 rfl rfl)
theorem dX6_peopleLine_89 : decode cX6_peopleLine 89 = .ok (.aload_n 0, 1) := dk_42 (dk_at dksX6_peopleLine_3 17 rfl rfl)
theorem dX6_peopleLine_90 : decode cX6_peopleLine 90 = .ok (.iconst 0, 1) := dk_3 (dk_at dksX6_peopleLine_3 18 rfl rfl)
theorem dX6_peopleLine_91 : decode cX6_peopleLine 91 = .ok (.iload_n 1, 1) := dk_27 (dk_at dksX6_peopleLine_3 19 rfl rfl)
theorem dX6_peopleLine_92 : decode cX6_peopleLine 92 = .ok (.invokevirtual 102, 3) := dk_182 0 102 (dk_at dksX6_peopleLine_3 20 rfl rfl)
theorem dX6_peopleLine_95 : decode cX6_peopleLine 95 = .ok (.goto 322, 3) := dk_167 1 66 (dk_at dksX6_peopleLine_4 0 rfl rfl)
theorem dX6_peopleLine_98 : decode cX6_peopleLine 98 = .ok (.aload_n 0, 1) := dk_42 (dk_at dksX6_peopleLine_4 3 rfl rfl)
theorem dX6_peopleLine_99 : decode cX6_peopleLine 99 = .ok (.ldc 106, 2) := dk_18 106 (dk_at dksX6_peopleLine_4 4 rfl rfl)
theorem dX6_peopleLine_101 : decode cX6_peopleLine 101 = .ok (.invokevirtual 81, 3) := dk_182 0 81 (dk_at dksX6_peopleLine_4 6 rfl rfl)
theorem dX6_peopleLine_104 : decode cX6_peopleLine 104 = .ok (.ifCond .eq 12, 3) := dk_153 0 12 (dk_at dksX6_peopleLine_4 9 rfl rfl)
theorem dX6_peopleLine_107 : decode cX6_peopleLine 107 = .ok (.aload_n 0, 1) := dk_42 (dk_at dksX6_peopleLine_4 12 rfl rfl)
theorem dX6_peopleLine_108 : decode cX6_peopleLine 108 = .ok (.iconst 1, 1) := dk_4 (dk_at dksX6_peopleLine_4 13 rfl rfl)
theorem dX6_peopleLine_109 : decode cX6_peopleLine 109 = .ok (.iload_n 1, 1) := dk_27 (dk_at dksX6_peopleLine_4 14 rfl rfl)
theorem dX6_peopleLine_110 : decode cX6_peopleLine 110 = .ok (.invokevirtual 102, 3) := dk_182 0 102 (dk_at dksX6_peopleLine_4 15 rfl rfl)
theorem dX6_peopleLine_113 : decode cX6_peopleLine 113 = .ok (.goto 304, 3) := dk_167 1 48 (dk_at dksX6_peopleLine_4 18 rfl rfl)
theorem dX6_peopleLine_116 : decode cX6_peopleLine 116 = .ok (.aload_n 0, 1) := dk_42 (dk_at dksX6_peopleLine_4 21 rfl rfl)
theorem dX6_peopleLine_117 : decode cX6_peopleLine 117 = .ok (.ldc 108, 2) := dk_18 108 (dk_at dksX6_peopleLine_4 22 rfl rfl)
theorem dX6_peopleLine_119 : decode cX6_peopleLine 119 = .ok (.invokevirtual 81, 3) := dk_182 0 81 (dk_at dksX6_peopleLine_5 0 rfl rfl)
theorem dX6_peopleLine_122 : decode cX6_peopleLine 122 = .ok (.ifCond .eq 12, 3) := dk_153 0 12 (dk_at dksX6_peopleLine_5 3 rfl rfl)
theorem dX6_peopleLine_125 : decode cX6_peopleLine 125 = .ok (.aload_n 0, 1) := dk_42 (dk_at dksX6_peopleLine_5 6 rfl rfl)
theorem dX6_peopleLine_126 : decode cX6_peopleLine 126 = .ok (.iconst 2, 1) := dk_5 (dk_at dksX6_peopleLine_5 7 rfl rfl)
theorem dX6_peopleLine_127 : decode cX6_peopleLine 127 = .ok (.iload_n 1, 1) := dk_27 (dk_at dksX6_peopleLine_5 8 rfl rfl)
theorem dX6_peopleLine_128 : decode cX6_peopleLine 128 = .ok (.invokevirtual 102, 3) := dk_182 0 102 (dk_at dksX6_peopleLine_5 9 rfl rfl)
theorem dX6_peopleLine_131 : decode cX6_peopleLine 131 = .ok (.goto 286, 3) := dk_167 1 30 (dk_at dksX6_peopleLine_5 12 rfl rfl)
theorem dX6_peopleLine_134 : decode cX6_peopleLine 134 = .ok (.aload_n 0, 1) := dk_42 (dk_at dksX6_peopleLine_5 15 rfl rfl)
theorem dX6_peopleLine_135 : decode cX6_peopleLine 135 = .ok (.ldc 110, 2) := dk_18 110 (dk_at dksX6_peopleLine_5 16 rfl rfl)
theorem dX6_peopleLine_137 : decode cX6_peopleLine 137 = .ok (.invokevirtual 81, 3) := dk_182 0 81 (dk_at dksX6_peopleLine_5 18 rfl rfl)
theorem dX6_peopleLine_140 : decode cX6_peopleLine 140 = .ok (.ifCond .eq 12, 3) := dk_153 0 12 (dk_at dksX6_peopleLine_5 21 rfl rfl)
theorem dX6_peopleLine_143 : decode cX6_peopleLine 143 = .ok (.aload_n 0, 1) := dk_42 (dk_at dksX6_peopleLine_6 0 rfl rfl)
theorem dX6_peopleLine_144 : decode cX6_peopleLine 144 = .ok (.iconst 3, 1) := dk_6 (dk_at dksX6_peopleLine_6 1 rfl rfl)
theorem dX6_peopleLine_145 : decode cX6_peopleLine 145 = .ok (.iload_n 1, 1) := dk_27 (dk_at dksX6_peopleLine_6 2 rfl rfl)
theorem dX6_peopleLine_146 : decode cX6_peopleLine 146 = .ok (.invokevirtual 102, 3) := dk_182 0 102 (dk_at dksX6_peopleLine_6 3 rfl rfl)
theorem dX6_peopleLine_149 : decode cX6_peopleLine 149 = .ok (.goto 268, 3) := dk_167 1 12 (dk_at dksX6_peopleLine_6 6 rfl rfl)
theorem dX6_peopleLine_152 : decode cX6_peopleLine 152 = .ok (.aload_n 0, 1) := dk_42 (dk_at dksX6_peopleLine_6 9 rfl rfl)
theorem dX6_peopleLine_153 : decode cX6_peopleLine 153 = .ok (.ldc 112, 2) := dk_18 112 (dk_at dksX6_peopleLine_6 10 rfl rfl)
theorem dX6_peopleLine_155 : decode cX6_peopleLine 155 = .ok (.invokevirtual 81, 3) := dk_182 0 81 (dk_at dksX6_peopleLine_6 12 rfl rfl)
theorem dX6_peopleLine_158 : decode cX6_peopleLine 158 = .ok (.ifCond .eq 89, 3) := dk_153 0 89 (dk_at dksX6_peopleLine_6 15 rfl rfl)
theorem dX6_peopleLine_161 : decode cX6_peopleLine 161 = .ok (.aload_n 0, 1) := dk_42 (dk_at dksX6_peopleLine_6 18 rfl rfl)
theorem dX6_peopleLine_162 : decode cX6_peopleLine 162 = .ok (.getfield 7, 3) := dk_180 0 7 (dk_at dksX6_peopleLine_6 19 rfl rfl)
theorem dX6_peopleLine_165 : decode cX6_peopleLine 165 = .ok (.iconst 3, 1) := dk_6 (dk_at dksX6_peopleLine_6 22 rfl rfl)
theorem dX6_peopleLine_166 : decode cX6_peopleLine 166 = .ok (.iaload, 1) := dk_46 (dk_at dksX6_peopleLine_6 23 rfl rfl)
theorem dX6_peopleLine_167 : decode cX6_peopleLine 167 = .ok (.bipush 10, 2) := dk_16 10 (dk_at dksX6_peopleLine_7 0 rfl rfl)
theorem dX6_peopleLine_169 : decode cX6_peopleLine 169 = .ok (.if_icmp .ne 8, 3) := dk_160 0 8 (dk_at dksX6_peopleLine_7 2 rfl rfl)
theorem dX6_peopleLine_172 : decode cX6_peopleLine 172 = .ok (.aload_n 0, 1) := dk_42 (dk_at dksX6_peopleLine_7 5 rfl rfl)
theorem dX6_peopleLine_173 : decode cX6_peopleLine 173 = .ok (.iload_n 1, 1) := dk_27 (dk_at dksX6_peopleLine_7 6 rfl rfl)
theorem dX6_peopleLine_174 : decode cX6_peopleLine 174 = .ok (.invokevirtual 77, 3) := dk_182 0 77 (dk_at dksX6_peopleLine_7 7 rfl rfl)
theorem dX6_peopleLine_177 : decode cX6_peopleLine 177 = .ok (.aload_n 0, 1) := dk_42 (dk_at dksX6_peopleLine_7 10 rfl rfl)
theorem dX6_peopleLine_178 : decode cX6_peopleLine 178 = .ok (.iconst 1, 1) := dk_4 (dk_at dksX6_peopleLine_7 11 rfl rfl)
theorem dX6_peopleLine_179 : decode cX6_peopleLine 179 = .ok (.bipush 99, 2) := dk_16 99 (dk_at dksX6_peopleLine_7 12 rfl rfl)
theorem dX6_peopleLine_181 : decode cX6_peopleLine 181 = .ok (.iconst 3, 1) := dk_6 (dk_at dksX6_peopleLine_7 14 rfl rfl)
theorem dX6_peopleLine_182 : decode cX6_peopleLine 182 = .ok (.invokevirtual 85, 3) := dk_182 0 85 (dk_at dksX6_peopleLine_7 15 rfl rfl)
theorem dX6_peopleLine_185 : decode cX6_peopleLine 185 = .ok (.istore_n 2, 1) := dk_61 (dk_at dksX6_peopleLine_7 18 rfl rfl)
theorem dX6_peopleLine_186 : decode cX6_peopleLine 186 = .ok (.aload_n 0, 1) := dk_42 (dk_at dksX6_peopleLine_7 19 rfl rfl)
theorem dX6_peopleLine_187 : decode cX6_peopleLine 187 = .ok (.getfield 22, 3) := dk_180 0 22 (dk_at dksX6_peopleLine_7 20 rfl rfl)
theorem dX6_peopleLine_190 : decode cX6_peopleLine 190 = .ok (.iconst (-1), 1) := dk_2 (dk_at dksX6_peopleLine_7 23 rfl rfl)
theorem dX6_peopleLine_191 : decode cX6_peopleLine 191 = .ok (.if_icmp .eq 4, 3) := dk_159 0 4 (dk_at dksX6_peopleLine_8 0 rfl rfl)
theorem dX6_peopleLine_194 : decode cX6_peopleLine 194 = .ok (.return_, 1) := dk_177 (dk_at dksX6_peopleLine_8 3 rfl rfl)
theorem dX6_peopleLine_195 : decode cX6_peopleLine 195 = .ok (.bipush 68, 2) := dk_16 68 (dk_at dksX6_peopleLine_8 4 rfl rfl)
theorem dX6_peopleLine_197 : decode cX6_peopleLine 197 = .ok (.iconst 3, 1) := dk_6 (dk_at dksX6_peopleLine_8 6 rfl rfl)
theorem dX6_peopleLine_198 : decode cX6_peopleLine 198 = .ok (.aload_n 0, 1) := dk_42 (dk_at dksX6_peopleLine_8 7 rfl rfl)
theorem dX6_peopleLine_199 : decode cX6_peopleLine 199 = .ok (.getfield 7, 3) := dk_180 0 7 (dk_at dksX6_peopleLine_8 8 rfl rfl)
theorem dX6_peopleLine_202 : decode cX6_peopleLine 202 = .ok (.iconst 3, 1) := dk_6 (dk_at dksX6_peopleLine_8 11 rfl rfl)
theorem dX6_peopleLine_203 : decode cX6_peopleLine 203 = .ok (.iaload, 1) := dk_46 (dk_at dksX6_peopleLine_8 12 rfl rfl)
theorem dX6_peopleLine_204 : decode cX6_peopleLine 204 = .ok (.imul, 1) := dk_104 (dk_at dksX6_peopleLine_8 13 rfl rfl)
theorem dX6_peopleLine_205 : decode cX6_peopleLine 205 = .ok (.iadd, 1) := dk_96 (dk_at dksX6_peopleLine_8 14 rfl rfl)
theorem dX6_peopleLine_206 : decode cX6_peopleLine 206 = .ok (.istore_n 3, 1) := dk_62 (dk_at dksX6_peopleLine_8 15 rfl rfl)
theorem dX6_peopleLine_207 : decode cX6_peopleLine 207 = .ok (.aload_n 0, 1) := dk_42 (dk_at dksX6_peopleLine_8 16 rfl rfl)
theorem dX6_peopleLine_208 : decode cX6_peopleLine 208 = .ok (.getfield 7, 3) := dk_180 0 7 (dk_at dksX6_peopleLine_8 17 rfl rfl)
theorem dX6_peopleLine_211 : decode cX6_peopleLine 211 = .ok (.iload_n 3, 1) := dk_29 (dk_at dksX6_peopleLine_8 20 rfl rfl)
theorem dX6_peopleLine_212 : decode cX6_peopleLine 212 = .ok (.iconst 0, 1) := dk_3 (dk_at dksX6_peopleLine_8 21 rfl rfl)
theorem dX6_peopleLine_213 : decode cX6_peopleLine 213 = .ok (.iadd, 1) := dk_96 (dk_at dksX6_peopleLine_8 22 rfl rfl)
theorem dX6_peopleLine_214 : decode cX6_peopleLine 214 = .ok (.iload_n 2, 1) := dk_28 (dk_at dksX6_peopleLine_8 23 rfl rfl)
theorem dX6_peopleLine_215 : decode cX6_peopleLine 215 = .ok (.iastore, 1) := dk_79 (dk_at dksX6_peopleLine_9 0 rfl rfl)
theorem dX6_peopleLine_216 : decode cX6_peopleLine 216 = .ok (.aload_n 0, 1) := dk_42 (dk_at dksX6_peopleLine_9 1 rfl rfl)
theorem dX6_peopleLine_217 : decode cX6_peopleLine 217 = .ok (.getfield 7, 3) := dk_180 0 7 (dk_at dksX6_peopleLine_9 2 rfl rfl)
theorem dX6_peopleLine_220 : decode cX6_peopleLine 220 = .ok (.iload_n 3, 1) := dk_29 (dk_at dksX6_peopleLine_9 5 rfl rfl)
theorem dX6_peopleLine_221 : decode cX6_peopleLine 221 = .ok (.iconst 1, 1) := dk_4 (dk_at dksX6_peopleLine_9 6 rfl rfl)
theorem dX6_peopleLine_222 : decode cX6_peopleLine 222 = .ok (.iadd, 1) := dk_96 (dk_at dksX6_peopleLine_9 7 rfl rfl)
theorem dX6_peopleLine_223 : decode cX6_peopleLine 223 = .ok (.iconst 0, 1) := dk_3 (dk_at dksX6_peopleLine_9 8 rfl rfl)
theorem dX6_peopleLine_224 : decode cX6_peopleLine 224 = .ok (.iastore, 1) := dk_79 (dk_at dksX6_peopleLine_9 9 rfl rfl)
theorem dX6_peopleLine_225 : decode cX6_peopleLine 225 = .ok (.aload_n 0, 1) := dk_42 (dk_at dksX6_peopleLine_9 10 rfl rfl)
theorem dX6_peopleLine_226 : decode cX6_peopleLine 226 = .ok (.getfield 7, 3) := dk_180 0 7 (dk_at dksX6_peopleLine_9 11 rfl rfl)
theorem dX6_peopleLine_229 : decode cX6_peopleLine 229 = .ok (.iload_n 3, 1) := dk_29 (dk_at dksX6_peopleLine_9 14 rfl rfl)
theorem dX6_peopleLine_230 : decode cX6_peopleLine 230 = .ok (.iconst 2, 1) := dk_5 (dk_at dksX6_peopleLine_9 15 rfl rfl)
theorem dX6_peopleLine_231 : decode cX6_peopleLine 231 = .ok (.iadd, 1) := dk_96 (dk_at dksX6_peopleLine_9 16 rfl rfl)
theorem dX6_peopleLine_232 : decode cX6_peopleLine 232 = .ok (.iconst 0, 1) := dk_3 (dk_at dksX6_peopleLine_9 17 rfl rfl)
theorem dX6_peopleLine_233 : decode cX6_peopleLine 233 = .ok (.iastore, 1) := dk_79 (dk_at dksX6_peopleLine_9 18 rfl rfl)
theorem dX6_peopleLine_234 : decode cX6_peopleLine 234 = .ok (.aload_n 0, 1) := dk_42 (dk_at dksX6_peopleLine_9 19 rfl rfl)
theorem dX6_peopleLine_235 : decode cX6_peopleLine 235 = .ok (.getfield 7, 3) := dk_180 0 7 (dk_at dksX6_peopleLine_9 20 rfl rfl)
theorem dX6_peopleLine_238 : decode cX6_peopleLine 238 = .ok (.iconst 3, 1) := dk_6 (dk_at dksX6_peopleLine_9 23 rfl rfl)
theorem dX6_peopleLine_239 : decode cX6_peopleLine 239 = .ok (.dup2, 1) := dk_92 (dk_at dksX6_peopleLine_10 0 rfl rfl)
theorem dX6_peopleLine_240 : decode cX6_peopleLine 240 = .ok (.iaload, 1) := dk_46 (dk_at dksX6_peopleLine_10 1 rfl rfl)
theorem dX6_peopleLine_241 : decode cX6_peopleLine 241 = .ok (.iconst 1, 1) := dk_4 (dk_at dksX6_peopleLine_10 2 rfl rfl)
theorem dX6_peopleLine_242 : decode cX6_peopleLine 242 = .ok (.iadd, 1) := dk_96 (dk_at dksX6_peopleLine_10 3 rfl rfl)
theorem dX6_peopleLine_243 : decode cX6_peopleLine 243 = .ok (.iastore, 1) := dk_79 (dk_at dksX6_peopleLine_10 4 rfl rfl)
theorem dX6_peopleLine_244 : decode cX6_peopleLine 244 = .ok (.goto 173, 3) := dk_167 0 173 (dk_at dksX6_peopleLine_10 5 rfl rfl)
theorem dX6_peopleLine_247 : decode cX6_peopleLine 247 = .ok (.aload_n 0, 1) := dk_42 (dk_at dksX6_peopleLine_10 8 rfl rfl)
theorem dX6_peopleLine_248 : decode cX6_peopleLine 248 = .ok (.ldc 114, 2) := dk_18 114 (dk_at dksX6_peopleLine_10 9 rfl rfl)
theorem dX6_peopleLine_250 : decode cX6_peopleLine 250 = .ok (.invokevirtual 81, 3) := dk_182 0 81 (dk_at dksX6_peopleLine_10 11 rfl rfl)
theorem dX6_peopleLine_253 : decode cX6_peopleLine 253 = .ok (.ifCond .eq 22, 3) := dk_153 0 22 (dk_at dksX6_peopleLine_10 14 rfl rfl)
theorem dX6_peopleLine_256 : decode cX6_peopleLine 256 = .ok (.aload_n 0, 1) := dk_42 (dk_at dksX6_peopleLine_10 17 rfl rfl)
theorem dX6_peopleLine_257 : decode cX6_peopleLine 257 = .ok (.getfield 7, 3) := dk_180 0 7 (dk_at dksX6_peopleLine_10 18 rfl rfl)
theorem dX6_peopleLine_260 : decode cX6_peopleLine 260 = .ok (.bipush 6, 2) := dk_16 6 (dk_at dksX6_peopleLine_10 21 rfl rfl)
theorem dX6_peopleLine_262 : decode cX6_peopleLine 262 = .ok (.aload_n 0, 1) := dk_42 (dk_at dksX6_peopleLine_10 23 rfl rfl)
theorem dX6_peopleLine_263 : decode cX6_peopleLine 263 = .ok (.iconst 1, 1) := dk_4 (dk_at dksX6_peopleLine_11 0 rfl rfl)
theorem dX6_peopleLine_264 : decode cX6_peopleLine 264 = .ok (.sipush 999, 3) := dk_17 3 231 (dk_at dksX6_peopleLine_11 1 rfl rfl)
theorem dX6_peopleLine_267 : decode cX6_peopleLine 267 = .ok (.iconst 3, 1) := dk_6 (dk_at dksX6_peopleLine_11 4 rfl rfl)
theorem dX6_peopleLine_268 : decode cX6_peopleLine 268 = .ok (.invokevirtual 85, 3) := dk_182 0 85 (dk_at dksX6_peopleLine_11 5 rfl rfl)
theorem dX6_peopleLine_271 : decode cX6_peopleLine 271 = .ok (.iastore, 1) := dk_79 (dk_at dksX6_peopleLine_11 8 rfl rfl)
theorem dX6_peopleLine_272 : decode cX6_peopleLine 272 = .ok (.goto 145, 3) := dk_167 0 145 (dk_at dksX6_peopleLine_11 9 rfl rfl)
theorem dX6_peopleLine_275 : decode cX6_peopleLine 275 = .ok (.aload_n 0, 1) := dk_42 (dk_at dksX6_peopleLine_11 12 rfl rfl)
theorem dX6_peopleLine_276 : decode cX6_peopleLine 276 = .ok (.ldc 116, 2) := dk_18 116 (dk_at dksX6_peopleLine_11 13 rfl rfl)
theorem dX6_peopleLine_278 : decode cX6_peopleLine 278 = .ok (.invokevirtual 81, 3) := dk_182 0 81 (dk_at dksX6_peopleLine_11 15 rfl rfl)
theorem dX6_peopleLine_281 : decode cX6_peopleLine 281 = .ok (.ifCond .eq 20, 3) := dk_153 0 20 (dk_at dksX6_peopleLine_11 18 rfl rfl)
theorem dX6_peopleLine_284 : decode cX6_peopleLine 284 = .ok (.aload_n 0, 1) := dk_42 (dk_at dksX6_peopleLine_11 21 rfl rfl)
theorem dX6_peopleLine_285 : decode cX6_peopleLine 285 = .ok (.getfield 7, 3) := dk_180 0 7 (dk_at dksX6_peopleLine_12 0 rfl rfl)
theorem dX6_peopleLine_288 : decode cX6_peopleLine 288 = .ok (.bipush 7, 2) := dk_16 7 (dk_at dksX6_peopleLine_12 3 rfl rfl)
theorem dX6_peopleLine_290 : decode cX6_peopleLine 290 = .ok (.aload_n 0, 1) := dk_42 (dk_at dksX6_peopleLine_12 5 rfl rfl)
theorem dX6_peopleLine_291 : decode cX6_peopleLine 291 = .ok (.iconst 0, 1) := dk_3 (dk_at dksX6_peopleLine_12 6 rfl rfl)
theorem dX6_peopleLine_292 : decode cX6_peopleLine 292 = .ok (.iconst 3, 1) := dk_6 (dk_at dksX6_peopleLine_12 7 rfl rfl)
theorem dX6_peopleLine_293 : decode cX6_peopleLine 293 = .ok (.iconst 3, 1) := dk_6 (dk_at dksX6_peopleLine_12 8 rfl rfl)
theorem dX6_peopleLine_294 : decode cX6_peopleLine 294 = .ok (.invokevirtual 85, 3) := dk_182 0 85 (dk_at dksX6_peopleLine_12 9 rfl rfl)
theorem dX6_peopleLine_297 : decode cX6_peopleLine 297 = .ok (.iastore, 1) := dk_79 (dk_at dksX6_peopleLine_12 12 rfl rfl)
theorem dX6_peopleLine_298 : decode cX6_peopleLine 298 = .ok (.goto 119, 3) := dk_167 0 119 (dk_at dksX6_peopleLine_12 13 rfl rfl)
theorem dX6_peopleLine_301 : decode cX6_peopleLine 301 = .ok (.aload_n 0, 1) := dk_42 (dk_at dksX6_peopleLine_12 16 rfl rfl)
theorem dX6_peopleLine_302 : decode cX6_peopleLine 302 = .ok (.ldc 118, 2) := dk_18 118 (dk_at dksX6_peopleLine_12 17 rfl rfl)
theorem dX6_peopleLine_304 : decode cX6_peopleLine 304 = .ok (.invokevirtual 81, 3) := dk_182 0 81 (dk_at dksX6_peopleLine_12 19 rfl rfl)
theorem dX6_peopleLine_307 : decode cX6_peopleLine 307 = .ok (.ifCond .eq 102, 3) := dk_153 0 102 (dk_at dksX6_peopleLine_13 0 rfl rfl)
theorem dX6_peopleLine_310 : decode cX6_peopleLine 310 = .ok (.aload_n 0, 1) := dk_42 (dk_at dksX6_peopleLine_13 3 rfl rfl)
theorem dX6_peopleLine_311 : decode cX6_peopleLine 311 = .ok (.getfield 7, 3) := dk_180 0 7 (dk_at dksX6_peopleLine_13 4 rfl rfl)
theorem dX6_peopleLine_314 : decode cX6_peopleLine 314 = .ok (.iconst 5, 1) := dk_8 (dk_at dksX6_peopleLine_13 7 rfl rfl)
theorem dX6_peopleLine_315 : decode cX6_peopleLine 315 = .ok (.iaload, 1) := dk_46 (dk_at dksX6_peopleLine_13 8 rfl rfl)
theorem dX6_peopleLine_316 : decode cX6_peopleLine 316 = .ok (.bipush 12, 2) := dk_16 12 (dk_at dksX6_peopleLine_13 9 rfl rfl)
theorem dX6_peopleLine_318 : decode cX6_peopleLine 318 = .ok (.if_icmp .ne 8, 3) := dk_160 0 8 (dk_at dksX6_peopleLine_13 11 rfl rfl)
theorem dX6_peopleLine_321 : decode cX6_peopleLine 321 = .ok (.aload_n 0, 1) := dk_42 (dk_at dksX6_peopleLine_13 14 rfl rfl)
theorem dX6_peopleLine_322 : decode cX6_peopleLine 322 = .ok (.iload_n 1, 1) := dk_27 (dk_at dksX6_peopleLine_13 15 rfl rfl)
theorem dX6_peopleLine_323 : decode cX6_peopleLine 323 = .ok (.invokevirtual 77, 3) := dk_182 0 77 (dk_at dksX6_peopleLine_13 16 rfl rfl)
theorem dX6_peopleLine_326 : decode cX6_peopleLine 326 = .ok (.aload_n 0, 1) := dk_42 (dk_at dksX6_peopleLine_13 19 rfl rfl)
theorem dX6_peopleLine_327 : decode cX6_peopleLine 327 = .ok (.iconst 1, 1) := dk_4 (dk_at dksX6_peopleLine_13 20 rfl rfl)
theorem dX6_peopleLine_328 : decode cX6_peopleLine 328 = .ok (.ldc 99, 2) := dk_18 99 (dk_at dksX6_peopleLine_13 21 rfl rfl)
theorem dX6_peopleLine_330 : decode cX6_peopleLine 330 = .ok (.iconst 5, 1) := dk_8 (dk_at dksX6_peopleLine_13 23 rfl rfl)
theorem dX6_peopleLine_331 : decode cX6_peopleLine 331 = .ok (.invokevirtual 85, 3) := dk_182 0 85 (dk_at dksX6_peopleLine_14 0 rfl rfl)
theorem dX6_peopleLine_334 : decode cX6_peopleLine 334 = .ok (.istore_n 2, 1) := dk_61 (dk_at dksX6_peopleLine_14 3 rfl rfl)
theorem dX6_peopleLine_335 : decode cX6_peopleLine 335 = .ok (.aload_n 0, 1) := dk_42 (dk_at dksX6_peopleLine_14 4 rfl rfl)
theorem dX6_peopleLine_336 : decode cX6_peopleLine 336 = .ok (.ldc 120, 2) := dk_18 120 (dk_at dksX6_peopleLine_14 5 rfl rfl)
theorem dX6_peopleLine_338 : decode cX6_peopleLine 338 = .ok (.invokevirtual 91, 3) := dk_182 0 91 (dk_at dksX6_peopleLine_14 7 rfl rfl)
theorem dX6_peopleLine_341 : decode cX6_peopleLine 341 = .ok (.aload_n 0, 1) := dk_42 (dk_at dksX6_peopleLine_14 10 rfl rfl)
theorem dX6_peopleLine_342 : decode cX6_peopleLine 342 = .ok (.iconst 0, 1) := dk_3 (dk_at dksX6_peopleLine_14 11 rfl rfl)
theorem dX6_peopleLine_343 : decode cX6_peopleLine 343 = .ok (.sipush 999, 3) := dk_17 3 231 (dk_at dksX6_peopleLine_14 12 rfl rfl)
theorem dX6_peopleLine_346 : decode cX6_peopleLine 346 = .ok (.iconst 3, 1) := dk_6 (dk_at dksX6_peopleLine_14 15 rfl rfl)
theorem dX6_peopleLine_347 : decode cX6_peopleLine 347 = .ok (.invokevirtual 85, 3) := dk_182 0 85 (dk_at dksX6_peopleLine_14 16 rfl rfl)
theorem dX6_peopleLine_350 : decode cX6_peopleLine 350 = .ok (.istore_n 3, 1) := dk_62 (dk_at dksX6_peopleLine_14 19 rfl rfl)
theorem dX6_peopleLine_351 : decode cX6_peopleLine 351 = .ok (.aload_n 0, 1) := dk_42 (dk_at dksX6_peopleLine_14 20 rfl rfl)
theorem dX6_peopleLine_352 : decode cX6_peopleLine 352 = .ok (.getfield 22, 3) := dk_180 0 22 (dk_at dksX6_peopleLine_14 21 rfl rfl)
theorem dX6_peopleLine_355 : decode cX6_peopleLine 355 = .ok (.iconst (-1), 1) := dk_2 (dk_at dksX6_peopleLine_15 0 rfl rfl)
theorem dX6_peopleLine_356 : decode cX6_peopleLine 356 = .ok (.if_icmp .eq 4, 3) := dk_159 0 4 (dk_at dksX6_peopleLine_15 1 rfl rfl)
theorem dX6_peopleLine_359 : decode cX6_peopleLine 359 = .ok (.return_, 1) := dk_177 (dk_at dksX6_peopleLine_15 4 rfl rfl)
theorem dX6_peopleLine_360 : decode cX6_peopleLine 360 = .ok (.aload_n 0, 1) := dk_42 (dk_at dksX6_peopleLine_15 5 rfl rfl)
theorem dX6_peopleLine_361 : decode cX6_peopleLine 361 = .ok (.getfield 7, 3) := dk_180 0 7 (dk_at dksX6_peopleLine_15 6 rfl rfl)
theorem dX6_peopleLine_364 : decode cX6_peopleLine 364 = .ok (.bipush 98, 2) := dk_16 98 (dk_at dksX6_peopleLine_15 9 rfl rfl)
theorem dX6_peopleLine_366 : decode cX6_peopleLine 366 = .ok (.iconst 2, 1) := dk_5 (dk_at dksX6_peopleLine_15 11 rfl rfl)
theorem dX6_peopleLine_367 : decode cX6_peopleLine 367 = .ok (.aload_n 0, 1) := dk_42 (dk_at dksX6_peopleLine_15 12 rfl rfl)
theorem dX6_peopleLine_368 : decode cX6_peopleLine 368 = .ok (.getfield 7, 3) := dk_180 0 7 (dk_at dksX6_peopleLine_15 13 rfl rfl)
theorem dX6_peopleLine_371 : decode cX6_peopleLine 371 = .ok (.iconst 5, 1) := dk_8 (dk_at dksX6_peopleLine_15 16 rfl rfl)
theorem dX6_peopleLine_372 : decode cX6_peopleLine 372 = .ok (.iaload, 1) := dk_46 (dk_at dksX6_peopleLine_15 17 rfl rfl)
theorem dX6_peopleLine_373 : decode cX6_peopleLine 373 = .ok (.imul, 1) := dk_104 (dk_at dksX6_peopleLine_15 18 rfl rfl)
theorem dX6_peopleLine_374 : decode cX6_peopleLine 374 = .ok (.iadd, 1) := dk_96 (dk_at dksX6_peopleLine_15 19 rfl rfl)
theorem dX6_peopleLine_375 : decode cX6_peopleLine 375 = .ok (.iload_n 2, 1) := dk_28 (dk_at dksX6_peopleLine_15 20 rfl rfl)
theorem dX6_peopleLine_376 : decode cX6_peopleLine 376 = .ok (.iastore, 1) := dk_79 (dk_at dksX6_peopleLine_15 21 rfl rfl)
theorem dX6_peopleLine_377 : decode cX6_peopleLine 377 = .ok (.aload_n 0, 1) := dk_42 (dk_at dksX6_peopleLine_15 22 rfl rfl)
theorem dX6_peopleLine_378 : decode cX6_peopleLine 378 = .ok (.getfield 7, 3) := dk_180 0 7 (dk_at dksX6_peopleLine_16 0 rfl rfl)
theorem dX6_peopleLine_381 : decode cX6_peopleLine 381 = .ok (.bipush 98, 2) := dk_16 98 (dk_at dksX6_peopleLine_16 3 rfl rfl)
theorem dX6_peopleLine_383 : decode cX6_peopleLine 383 = .ok (.iconst 2, 1) := dk_5 (dk_at dksX6_peopleLine_16 5 rfl rfl)
theorem dX6_peopleLine_384 : decode cX6_peopleLine 384 = .ok (.aload_n 0, 1) := dk_42 (dk_at dksX6_peopleLine_16 6 rfl rfl)
theorem dX6_peopleLine_385 : decode cX6_peopleLine 385 = .ok (.getfield 7, 3) := dk_180 0 7 (dk_at dksX6_peopleLine_16 7 rfl rfl)
theorem dX6_peopleLine_388 : decode cX6_peopleLine 388 = .ok (.iconst 5, 1) := dk_8 (dk_at dksX6_peopleLine_16 10 rfl rfl)
theorem dX6_peopleLine_389 : decode cX6_peopleLine 389 = .ok (.iaload, 1) := dk_46 (dk_at dksX6_peopleLine_16 11 rfl rfl)
theorem dX6_peopleLine_390 : decode cX6_peopleLine 390 = .ok (.imul, 1) := dk_104 (dk_at dksX6_peopleLine_16 12 rfl rfl)
theorem dX6_peopleLine_391 : decode cX6_peopleLine 391 = .ok (.iadd, 1) := dk_96 (dk_at dksX6_peopleLine_16 13 rfl rfl)
theorem dX6_peopleLine_392 : decode cX6_peopleLine 392 = .ok (.iconst 1, 1) := dk_4 (dk_at dksX6_peopleLine_16 14 rfl rfl)
theorem dX6_peopleLine_393 : decode cX6_peopleLine 393 = .ok (.iadd, 1) := dk_96 (dk_at dksX6_peopleLine_16 15 rfl rfl)
theorem dX6_peopleLine_394 : decode cX6_peopleLine 394 = .ok (.iload_n 3, 1) := dk_29 (dk_at dksX6_peopleLine_16 16 rfl rfl)
theorem dX6_peopleLine_395 : decode cX6_peopleLine 395 = .ok (.iastore, 1) := dk_79 (dk_at dksX6_peopleLine_16 17 rfl rfl)
theorem dX6_peopleLine_396 : decode cX6_peopleLine 396 = .ok (.aload_n 0, 1) := dk_42 (dk_at dksX6_peopleLine_16 18 rfl rfl)
theorem dX6_peopleLine_397 : decode cX6_peopleLine 397 = .ok (.getfield 7, 3) := dk_180 0 7 (dk_at dksX6_peopleLine_16 19 rfl rfl)
theorem dX6_peopleLine_400 : decode cX6_peopleLine 400 = .ok (.iconst 5, 1) := dk_8 (dk_at dksX6_peopleLine_16 22 rfl rfl)
theorem dX6_peopleLine_401 : decode cX6_peopleLine 401 = .ok (.dup2, 1) := dk_92 (dk_at dksX6_peopleLine_16 23 rfl rfl)
theorem dX6_peopleLine_402 : decode cX6_peopleLine 402 = .ok (.iaload, 1) := dk_46 (dk_at dksX6_peopleLine_17 0 rfl rfl)
theorem dX6_peopleLine_403 : decode cX6_peopleLine 403 = .ok (.iconst 1, 1) := dk_4 (dk_at dksX6_peopleLine_17 1 rfl rfl)
theorem dX6_peopleLine_404 : decode cX6_peopleLine 404 = .ok (.iadd, 1) := dk_96 (dk_at dksX6_peopleLine_17 2 rfl rfl)
theorem dX6_peopleLine_405 : decode cX6_peopleLine 405 = .ok (.iastore, 1) := dk_79 (dk_at dksX6_peopleLine_17 3 rfl rfl)
theorem dX6_peopleLine_406 : decode cX6_peopleLine 406 = .ok (.goto 11, 3) := dk_167 0 11 (dk_at dksX6_peopleLine_17 4 rfl rfl)
theorem dX6_peopleLine_409 : decode cX6_peopleLine 409 = .ok (.aload_n 0, 1) := dk_42 (dk_at dksX6_peopleLine_17 7 rfl rfl)
theorem dX6_peopleLine_410 : decode cX6_peopleLine 410 = .ok (.aload_n 0, 1) := dk_42 (dk_at dksX6_peopleLine_17 8 rfl rfl)
theorem dX6_peopleLine_411 : decode cX6_peopleLine 411 = .ok (.getfield 54, 3) := dk_180 0 54 (dk_at dksX6_peopleLine_17 9 rfl rfl)
theorem dX6_peopleLine_414 : decode cX6_peopleLine 414 = .ok (.invokevirtual 77, 3) := dk_182 0 77 (dk_at dksX6_peopleLine_17 12 rfl rfl)
theorem dX6_peopleLine_417 : decode cX6_peopleLine 417 = .ok (.return_, 1) := dk_177 (dk_at dksX6_peopleLine_17 15 rfl rfl)
abbrev cX6_comes : ByteArray := prog_23_method_19_code
def yX6_comes : MethodName := ⟨RX6, "comes", "(II)V"⟩
def dkwX6_comes_6 : List UInt8 := [180, 0, 7, 5, 92, 46, 4, 96, 79, 177]
abbrev dktX6_comes_6 : List UInt8 := dkwX6_comes_6 ++ []
def dkwX6_comes_5 : List UInt8 := [79, 42, 180, 0, 7, 21, 6, 5, 96, 21, 4, 79, 42, 180, 0, 7, 21, 6, 6, 96, 21, 5, 79, 42]
abbrev dktX6_comes_5 : List UInt8 := dkwX6_comes_5 ++ dktX6_comes_6
def dkwX6_comes_4 : List UInt8 := [46, 104, 96, 54, 6, 42, 180, 0, 7, 21, 6, 3, 96, 27, 79, 42, 180, 0, 7, 21, 6, 4, 96, 29]
abbrev dktX6_comes_4 : List UInt8 := dkwX6_comes_4 ++ dktX6_comes_5
def dkwX6_comes_3 : List UInt8 := [167, 0, 5, 16, 50, 54, 5, 42, 180, 0, 22, 2, 159, 0, 4, 177, 16, 20, 7, 42, 180, 0, 7, 5]
abbrev dktX6_comes_3 : List UInt8 := dkwX6_comes_3 ++ dktX6_comes_4
def dkwX6_comes_2 : List UInt8 := [180, 0, 22, 2, 160, 0, 23, 42, 18, 95, 182, 0, 81, 153, 0, 14, 42, 3, 16, 100, 6, 182, 0, 85]
abbrev dktX6_comes_2 : List UInt8 := dkwX6_comes_2 ++ dktX6_comes_3
def dkwX6_comes_1 : List UInt8 := [62, 42, 18, 89, 182, 0, 91, 42, 3, 42, 180, 0, 7, 4, 46, 4, 100, 6, 182, 0, 85, 54, 4, 42]
abbrev dktX6_comes_1 : List UInt8 := dkwX6_comes_1 ++ dktX6_comes_2
def dkwX6_comes_0 : List UInt8 := [42, 180, 0, 7, 5, 46, 16, 12, 160, 0, 8, 42, 28, 182, 0, 77, 42, 3, 16, 99, 6, 182, 0, 85]
abbrev dktX6_comes_0 : List UInt8 := dkwX6_comes_0 ++ dktX6_comes_1
theorem dksX6_comes_0 : cX6_comes.data.toList.drop 0 = dktX6_comes_0 := by decide +kernel
theorem dksX6_comes_1 : cX6_comes.data.toList.drop 24 = dktX6_comes_1 := dk_seg dksX6_comes_0 24 rfl rfl
theorem dksX6_comes_2 : cX6_comes.data.toList.drop 48 = dktX6_comes_2 := dk_seg dksX6_comes_1 24 rfl rfl
theorem dksX6_comes_3 : cX6_comes.data.toList.drop 72 = dktX6_comes_3 := dk_seg dksX6_comes_2 24 rfl rfl
theorem dksX6_comes_4 : cX6_comes.data.toList.drop 96 = dktX6_comes_4 := dk_seg dksX6_comes_3 24 rfl rfl
theorem dksX6_comes_5 : cX6_comes.data.toList.drop 120 = dktX6_comes_5 := dk_seg dksX6_comes_4 24 rfl rfl
theorem dksX6_comes_6 : cX6_comes.data.toList.drop 144 = dktX6_comes_6 := dk_seg dksX6_comes_5 24 rfl rfl
theorem dX6_comes_0 : decode cX6_comes 0 = .ok (.aload_n 0, 1) := dk_42 (dk_at dksX6_comes_0 0 rfl rfl)
theorem dX6_comes_1 : decode cX6_comes 1 = .ok (.getfield 7, 3) := dk_180 0 7 (dk_at dksX6_comes_0 1 rfl rfl)
theorem dX6_comes_4 : decode cX6_comes 4 = .ok (.iconst 2, 1) := dk_5 (dk_at dksX6_comes_0 4 rfl rfl)
theorem dX6_comes_5 : decode cX6_comes 5 = .ok (.iaload, 1) := dk_46 (dk_at dksX6_comes_0 5 rfl rfl)
theorem dX6_comes_6 : decode cX6_comes 6 = .ok (.bipush 12, 2) := dk_16 12 (dk_at dksX6_comes_0 6 rfl rfl)
theorem dX6_comes_8 : decode cX6_comes 8 = .ok (.if_icmp .ne 8, 3) := dk_160 0 8 (dk_at dksX6_comes_0 8 rfl rfl)
theorem dX6_comes_11 : decode cX6_comes 11 = .ok (.aload_n 0, 1) := dk_42 (dk_at dksX6_comes_0 11 rfl rfl)
theorem dX6_comes_12 : decode cX6_comes 12 = .ok (.iload_n 2, 1) := dk_28 (dk_at dksX6_comes_0 12 rfl rfl)
theorem dX6_comes_13 : decode cX6_comes 13 = .ok (.invokevirtual 77, 3) := dk_182 0 77 (dk_at dksX6_comes_0 13 rfl rfl)
theorem dX6_comes_16 : decode cX6_comes 16 = .ok (.aload_n 0, 1) := dk_42 (dk_at dksX6_comes_0 16 rfl rfl)
theorem dX6_comes_17 : decode cX6_comes 17 = .ok (.iconst 0, 1) := dk_3 (dk_at dksX6_comes_0 17 rfl rfl)
theorem dX6_comes_18 : decode cX6_comes 18 = .ok (.bipush 99, 2) := dk_16 99 (dk_at dksX6_comes_0 18 rfl rfl)
theorem dX6_comes_20 : decode cX6_comes 20 = .ok (.iconst 3, 1) := dk_6 (dk_at dksX6_comes_0 20 rfl rfl)
theorem dX6_comes_21 : decode cX6_comes 21 = .ok (.invokevirtual 85, 3) := dk_182 0 85 (dk_at dksX6_comes_0 21 rfl rfl)
theorem dX6_comes_24 : decode cX6_comes 24 = .ok (.istore_n 3, 1) := dk_62 (dk_at dksX6_comes_1 0 rfl rfl)
theorem dX6_comes_25 : decode cX6_comes 25 = .ok (.aload_n 0, 1) := dk_42 (dk_at dksX6_comes_1 1 rfl rfl)
theorem dX6_comes_26 : decode cX6_comes 26 = .ok (.ldc 89, 2) := dk_18 89 (dk_at dksX6_comes_1 2 rfl rfl)
theorem dX6_comes_28 : decode cX6_comes 28 = .ok (.invokevirtual 91, 3) := dk_182 0 91 (dk_at dksX6_comes_1 4 rfl rfl)
theorem dX6_comes_31 : decode cX6_comes 31 = .ok (.aload_n 0, 1) := dk_42 (dk_at dksX6_comes_1 7 rfl rfl)
theorem dX6_comes_32 : decode cX6_comes 32 = .ok (.iconst 0, 1) := dk_3 (dk_at dksX6_comes_1 8 rfl rfl)
theorem dX6_comes_33 : decode cX6_comes 33 = .ok (.aload_n 0, 1) := dk_42 (dk_at dksX6_comes_1 9 rfl rfl)
theorem dX6_comes_34 : decode cX6_comes 34 = .ok (.getfield 7, 3) := dk_180 0 7 (dk_at dksX6_comes_1 10 rfl rfl)
theorem dX6_comes_37 : decode cX6_comes 37 = .ok (.iconst 1, 1) := dk_4 (dk_at dksX6_comes_1 13 rfl rfl)
theorem dX6_comes_38 : decode cX6_comes 38 = .ok (.iaload, 1) := dk_46 (dk_at dksX6_comes_1 14 rfl rfl)
theorem dX6_comes_39 : decode cX6_comes 39 = .ok (.iconst 1, 1) := dk_4 (dk_at dksX6_comes_1 15 rfl rfl)
theorem dX6_comes_40 : decode cX6_comes 40 = .ok (.isub, 1) := dk_100 (dk_at dksX6_comes_1 16 rfl rfl)
theorem dX6_comes_41 : decode cX6_comes 41 = .ok (.iconst 3, 1) := dk_6 (dk_at dksX6_comes_1 17 rfl rfl)
theorem dX6_comes_42 : decode cX6_comes 42 = .ok (.invokevirtual 85, 3) := dk_182 0 85 (dk_at dksX6_comes_1 18 rfl rfl)
theorem dX6_comes_45 : decode cX6_comes 45 = .ok (.istore 4, 2) := dk_54 4 (dk_at dksX6_comes_1 21 rfl rfl)
theorem dX6_comes_47 : decode cX6_comes 47 = .ok (.aload_n 0, 1) := dk_42 (dk_at dksX6_comes_1 23 rfl rfl)
theorem dX6_comes_48 : decode cX6_comes 48 = .ok (.getfield 22, 3) := dk_180 0 22 (dk_at dksX6_comes_2 0 rfl rfl)
theorem dX6_comes_51 : decode cX6_comes 51 = .ok (.iconst (-1), 1) := dk_2 (dk_at dksX6_comes_2 3 rfl rfl)
theorem dX6_comes_52 : decode cX6_comes 52 = .ok (.if_icmp .ne 23, 3) := dk_160 0 23 (dk_at dksX6_comes_2 4 rfl rfl)
theorem dX6_comes_55 : decode cX6_comes 55 = .ok (.aload_n 0, 1) := dk_42 (dk_at dksX6_comes_2 7 rfl rfl)
theorem dX6_comes_56 : decode cX6_comes 56 = .ok (.ldc 95, 2) := dk_18 95 (dk_at dksX6_comes_2 8 rfl rfl)
theorem dX6_comes_58 : decode cX6_comes 58 = .ok (.invokevirtual 81, 3) := dk_182 0 81 (dk_at dksX6_comes_2 10 rfl rfl)
theorem dX6_comes_61 : decode cX6_comes 61 = .ok (.ifCond .eq 14, 3) := dk_153 0 14 (dk_at dksX6_comes_2 13 rfl rfl)
theorem dX6_comes_64 : decode cX6_comes 64 = .ok (.aload_n 0, 1) := dk_42 (dk_at dksX6_comes_2 16 rfl rfl)
theorem dX6_comes_65 : decode cX6_comes 65 = .ok (.iconst 0, 1) := dk_3 (dk_at dksX6_comes_2 17 rfl rfl)
theorem dX6_comes_66 : decode cX6_comes 66 = .ok (.bipush 100, 2) := dk_16 100 (dk_at dksX6_comes_2 18 rfl rfl)
theorem dX6_comes_68 : decode cX6_comes 68 = .ok (.iconst 3, 1) := dk_6 (dk_at dksX6_comes_2 20 rfl rfl)
theorem dX6_comes_69 : decode cX6_comes 69 = .ok (.invokevirtual 85, 3) := dk_182 0 85 (dk_at dksX6_comes_2 21 rfl rfl)
theorem dX6_comes_72 : decode cX6_comes 72 = .ok (.goto 5, 3) := dk_167 0 5 (dk_at dksX6_comes_3 0 rfl rfl)
theorem dX6_comes_75 : decode cX6_comes 75 = .ok (.bipush 50, 2) := dk_16 50 (dk_at dksX6_comes_3 3 rfl rfl)
theorem dX6_comes_77 : decode cX6_comes 77 = .ok (.istore 5, 2) := dk_54 5 (dk_at dksX6_comes_3 5 rfl rfl)
theorem dX6_comes_79 : decode cX6_comes 79 = .ok (.aload_n 0, 1) := dk_42 (dk_at dksX6_comes_3 7 rfl rfl)
theorem dX6_comes_80 : decode cX6_comes 80 = .ok (.getfield 22, 3) := dk_180 0 22 (dk_at dksX6_comes_3 8 rfl rfl)
theorem dX6_comes_83 : decode cX6_comes 83 = .ok (.iconst (-1), 1) := dk_2 (dk_at dksX6_comes_3 11 rfl rfl)
theorem dX6_comes_84 : decode cX6_comes 84 = .ok (.if_icmp .eq 4, 3) := dk_159 0 4 (dk_at dksX6_comes_3 12 rfl rfl)
theorem dX6_comes_87 : decode cX6_comes 87 = .ok (.return_, 1) := dk_177 (dk_at dksX6_comes_3 15 rfl rfl)
theorem dX6_comes_88 : decode cX6_comes 88 = .ok (.bipush 20, 2) := dk_16 20 (dk_at dksX6_comes_3 16 rfl rfl)
theorem dX6_comes_90 : decode cX6_comes 90 = .ok (.iconst 4, 1) := dk_7 (dk_at dksX6_comes_3 18 rfl rfl)
theorem dX6_comes_91 : decode cX6_comes 91 = .ok (.aload_n 0, 1) := dk_42 (dk_at dksX6_comes_3 19 rfl rfl)
theorem dX6_comes_92 : decode cX6_comes 92 = .ok (.getfield 7, 3) := dk_180 0 7 (dk_at dksX6_comes_3 20 rfl rfl)
theorem dX6_comes_95 : decode cX6_comes 95 = .ok (.iconst 2, 1) := dk_5 (dk_at dksX6_comes_3 23 rfl rfl)
theorem dX6_comes_96 : decode cX6_comes 96 = .ok (.iaload, 1) := dk_46 (dk_at dksX6_comes_4 0 rfl rfl)
theorem dX6_comes_97 : decode cX6_comes 97 = .ok (.imul, 1) := dk_104 (dk_at dksX6_comes_4 1 rfl rfl)
theorem dX6_comes_98 : decode cX6_comes 98 = .ok (.iadd, 1) := dk_96 (dk_at dksX6_comes_4 2 rfl rfl)
theorem dX6_comes_99 : decode cX6_comes 99 = .ok (.istore 6, 2) := dk_54 6 (dk_at dksX6_comes_4 3 rfl rfl)
theorem dX6_comes_101 : decode cX6_comes 101 = .ok (.aload_n 0, 1) := dk_42 (dk_at dksX6_comes_4 5 rfl rfl)
theorem dX6_comes_102 : decode cX6_comes 102 = .ok (.getfield 7, 3) := dk_180 0 7 (dk_at dksX6_comes_4 6 rfl rfl)
theorem dX6_comes_105 : decode cX6_comes 105 = .ok (.iload 6, 2) := dk_21 6 (dk_at dksX6_comes_4 9 rfl rfl)
theorem dX6_comes_107 : decode cX6_comes 107 = .ok (.iconst 0, 1) := dk_3 (dk_at dksX6_comes_4 11 rfl rfl)
theorem dX6_comes_108 : decode cX6_comes 108 = .ok (.iadd, 1) := dk_96 (dk_at dksX6_comes_4 12 rfl rfl)
theorem dX6_comes_109 : decode cX6_comes 109 = .ok (.iload_n 1, 1) := dk_27 (dk_at dksX6_comes_4 13 rfl rfl)
theorem dX6_comes_110 : decode cX6_comes 110 = .ok (.iastore, 1) := dk_79 (dk_at dksX6_comes_4 14 rfl rfl)
theorem dX6_comes_111 : decode cX6_comes 111 = .ok (.aload_n 0, 1) := dk_42 (dk_at dksX6_comes_4 15 rfl rfl)
theorem dX6_comes_112 : decode cX6_comes 112 = .ok (.getfield 7, 3) := dk_180 0 7 (dk_at dksX6_comes_4 16 rfl rfl)
theorem dX6_comes_115 : decode cX6_comes 115 = .ok (.iload 6, 2) := dk_21 6 (dk_at dksX6_comes_4 19 rfl rfl)
theorem dX6_comes_117 : decode cX6_comes 117 = .ok (.iconst 1, 1) := dk_4 (dk_at dksX6_comes_4 21 rfl rfl)
theorem dX6_comes_118 : decode cX6_comes 118 = .ok (.iadd, 1) := dk_96 (dk_at dksX6_comes_4 22 rfl rfl)
theorem dX6_comes_119 : decode cX6_comes 119 = .ok (.iload_n 3, 1) := dk_29 (dk_at dksX6_comes_4 23 rfl rfl)
theorem dX6_comes_120 : decode cX6_comes 120 = .ok (.iastore, 1) := dk_79 (dk_at dksX6_comes_5 0 rfl rfl)
theorem dX6_comes_121 : decode cX6_comes 121 = .ok (.aload_n 0, 1) := dk_42 (dk_at dksX6_comes_5 1 rfl rfl)
theorem dX6_comes_122 : decode cX6_comes 122 = .ok (.getfield 7, 3) := dk_180 0 7 (dk_at dksX6_comes_5 2 rfl rfl)
theorem dX6_comes_125 : decode cX6_comes 125 = .ok (.iload 6, 2) := dk_21 6 (dk_at dksX6_comes_5 5 rfl rfl)
theorem dX6_comes_127 : decode cX6_comes 127 = .ok (.iconst 2, 1) := dk_5 (dk_at dksX6_comes_5 7 rfl rfl)
theorem dX6_comes_128 : decode cX6_comes 128 = .ok (.iadd, 1) := dk_96 (dk_at dksX6_comes_5 8 rfl rfl)
theorem dX6_comes_129 : decode cX6_comes 129 = .ok (.iload 4, 2) := dk_21 4 (dk_at dksX6_comes_5 9 rfl rfl)
theorem dX6_comes_131 : decode cX6_comes 131 = .ok (.iastore, 1) := dk_79 (dk_at dksX6_comes_5 11 rfl rfl)
theorem dX6_comes_132 : decode cX6_comes 132 = .ok (.aload_n 0, 1) := dk_42 (dk_at dksX6_comes_5 12 rfl rfl)
theorem dX6_comes_133 : decode cX6_comes 133 = .ok (.getfield 7, 3) := dk_180 0 7 (dk_at dksX6_comes_5 13 rfl rfl)
theorem dX6_comes_136 : decode cX6_comes 136 = .ok (.iload 6, 2) := dk_21 6 (dk_at dksX6_comes_5 16 rfl rfl)
theorem dX6_comes_138 : decode cX6_comes 138 = .ok (.iconst 3, 1) := dk_6 (dk_at dksX6_comes_5 18 rfl rfl)
theorem dX6_comes_139 : decode cX6_comes 139 = .ok (.iadd, 1) := dk_96 (dk_at dksX6_comes_5 19 rfl rfl)
theorem dX6_comes_140 : decode cX6_comes 140 = .ok (.iload 5, 2) := dk_21 5 (dk_at dksX6_comes_5 20 rfl rfl)
theorem dX6_comes_142 : decode cX6_comes 142 = .ok (.iastore, 1) := dk_79 (dk_at dksX6_comes_5 22 rfl rfl)
theorem dX6_comes_143 : decode cX6_comes 143 = .ok (.aload_n 0, 1) := dk_42 (dk_at dksX6_comes_5 23 rfl rfl)
theorem dX6_comes_144 : decode cX6_comes 144 = .ok (.getfield 7, 3) := dk_180 0 7 (dk_at dksX6_comes_6 0 rfl rfl)
theorem dX6_comes_147 : decode cX6_comes 147 = .ok (.iconst 2, 1) := dk_5 (dk_at dksX6_comes_6 3 rfl rfl)
theorem dX6_comes_148 : decode cX6_comes 148 = .ok (.dup2, 1) := dk_92 (dk_at dksX6_comes_6 4 rfl rfl)
theorem dX6_comes_149 : decode cX6_comes 149 = .ok (.iaload, 1) := dk_46 (dk_at dksX6_comes_6 5 rfl rfl)
theorem dX6_comes_150 : decode cX6_comes 150 = .ok (.iconst 1, 1) := dk_4 (dk_at dksX6_comes_6 6 rfl rfl)
theorem dX6_comes_151 : decode cX6_comes 151 = .ok (.iadd, 1) := dk_96 (dk_at dksX6_comes_6 7 rfl rfl)
theorem dX6_comes_152 : decode cX6_comes 152 = .ok (.iastore, 1) := dk_79 (dk_at dksX6_comes_6 8 rfl rfl)
theorem dX6_comes_153 : decode cX6_comes 153 = .ok (.return_, 1) := dk_177 (dk_at dksX6_comes_6 9 rfl rfl)
abbrev cX6_must : ByteArray := prog_23_method_18_code
def yX6_must : MethodName := ⟨RX6, "must", "(Ljava/lang/String;)V"⟩
def dkwX6_must_1 : List UInt8 := [177]
abbrev dktX6_must_1 : List UInt8 := dkwX6_must_1 ++ []
def dkwX6_must_0 : List UInt8 := [42, 180, 0, 22, 2, 160, 0, 19, 42, 43, 182, 0, 81, 154, 0, 11, 42, 42, 180, 0, 54, 182, 0, 77]
abbrev dktX6_must_0 : List UInt8 := dkwX6_must_0 ++ dktX6_must_1
theorem dksX6_must_0 : cX6_must.data.toList.drop 0 = dktX6_must_0 := by decide +kernel
theorem dksX6_must_1 : cX6_must.data.toList.drop 24 = dktX6_must_1 := dk_seg dksX6_must_0 24 rfl rfl
theorem dX6_must_0 : decode cX6_must 0 = .ok (.aload_n 0, 1) := dk_42 (dk_at dksX6_must_0 0 rfl rfl)
theorem dX6_must_1 : decode cX6_must 1 = .ok (.getfield 22, 3) := dk_180 0 22 (dk_at dksX6_must_0 1 rfl rfl)
theorem dX6_must_4 : decode cX6_must 4 = .ok (.iconst (-1), 1) := dk_2 (dk_at dksX6_must_0 4 rfl rfl)
theorem dX6_must_5 : decode cX6_must 5 = .ok (.if_icmp .ne 19, 3) := dk_160 0 19 (dk_at dksX6_must_0 5 rfl rfl)
theorem dX6_must_8 : decode cX6_must 8 = .ok (.aload_n 0, 1) := dk_42 (dk_at dksX6_must_0 8 rfl rfl)
theorem dX6_must_9 : decode cX6_must 9 = .ok (.aload_n 1, 1) := dk_43 (dk_at dksX6_must_0 9 rfl rfl)
theorem dX6_must_10 : decode cX6_must 10 = .ok (.invokevirtual 81, 3) := dk_182 0 81 (dk_at dksX6_must_0 10 rfl rfl)
theorem dX6_must_13 : decode cX6_must 13 = .ok (.ifCond .ne 11, 3) := dk_154 0 11 (dk_at dksX6_must_0 13 rfl rfl)
theorem dX6_must_16 : decode cX6_must 16 = .ok (.aload_n 0, 1) := dk_42 (dk_at dksX6_must_0 16 rfl rfl)
theorem dX6_must_17 : decode cX6_must 17 = .ok (.aload_n 0, 1) := dk_42 (dk_at dksX6_must_0 17 rfl rfl)
theorem dX6_must_18 : decode cX6_must 18 = .ok (.getfield 54, 3) := dk_180 0 54 (dk_at dksX6_must_0 18 rfl rfl)
theorem dX6_must_21 : decode cX6_must 21 = .ok (.invokevirtual 77, 3) := dk_182 0 77 (dk_at dksX6_must_0 21 rfl rfl)
theorem dX6_must_24 : decode cX6_must 24 = .ok (.return_, 1) := dk_177 (dk_at dksX6_must_1 0 rfl rfl)
abbrev cX6_law : ByteArray := prog_23_method_31_code
def yX6_law : MethodName := ⟨RX6, "law", "()I"⟩
def dkwX6_law_3 : List UInt8 := [180, 0, 7, 17, 2, 30, 28, 96, 42, 180, 0, 19, 28, 46, 79, 132, 2, 1, 167, 255, 229, 27, 172]
abbrev dktX6_law_3 : List UInt8 := dkwX6_law_3 ++ []
def dkwX6_law_2 : List UInt8 := [79, 42, 180, 0, 7, 16, 11, 42, 180, 0, 57, 79, 3, 61, 28, 42, 180, 0, 57, 162, 0, 25, 42]
abbrev dktX6_law_2 : List UInt8 := dkwX6_law_2 ++ dktX6_law_3
def dkwX6_law_1 : List UInt8 := [4, 167, 0, 4, 3, 181, 0, 41, 42, 180, 0, 41, 158, 0, 5, 3, 172, 42, 180, 0, 7, 16, 10, 27]
abbrev dktX6_law_1 : List UInt8 := dkwX6_law_1 ++ dktX6_law_2
def dkwX6_law_0 : List UInt8 := [42, 182, 0, 135, 42, 2, 181, 0, 193, 42, 4, 182, 0, 138, 60, 42, 42, 180, 0, 22, 2, 159, 0, 7]
abbrev dktX6_law_0 : List UInt8 := dkwX6_law_0 ++ dktX6_law_1
theorem dksX6_law_0 : cX6_law.data.toList.drop 0 = dktX6_law_0 := by decide +kernel
theorem dksX6_law_1 : cX6_law.data.toList.drop 24 = dktX6_law_1 := dk_seg dksX6_law_0 24 rfl rfl
theorem dksX6_law_2 : cX6_law.data.toList.drop 48 = dktX6_law_2 := dk_seg dksX6_law_1 24 rfl rfl
theorem dksX6_law_3 : cX6_law.data.toList.drop 71 = dktX6_law_3 := dk_seg dksX6_law_2 23 rfl rfl
theorem dX6_law_0 : decode cX6_law 0 = .ok (.aload_n 0, 1) := dk_42 (dk_at dksX6_law_0 0 rfl rfl)
theorem dX6_law_1 : decode cX6_law 1 = .ok (.invokevirtual 135, 3) := dk_182 0 135 (dk_at dksX6_law_0 1 rfl rfl)
theorem dX6_law_4 : decode cX6_law 4 = .ok (.aload_n 0, 1) := dk_42 (dk_at dksX6_law_0 4 rfl rfl)
theorem dX6_law_5 : decode cX6_law 5 = .ok (.iconst (-1), 1) := dk_2 (dk_at dksX6_law_0 5 rfl rfl)
theorem dX6_law_6 : decode cX6_law 6 = .ok (.putfield 193, 3) := dk_181 0 193 (dk_at dksX6_law_0 6 rfl rfl)
theorem dX6_law_9 : decode cX6_law 9 = .ok (.aload_n 0, 1) := dk_42 (dk_at dksX6_law_0 9 rfl rfl)
theorem dX6_law_10 : decode cX6_law 10 = .ok (.iconst 1, 1) := dk_4 (dk_at dksX6_law_0 10 rfl rfl)
theorem dX6_law_11 : decode cX6_law 11 = .ok (.invokevirtual 138, 3) := dk_182 0 138 (dk_at dksX6_law_0 11 rfl rfl)
theorem dX6_law_14 : decode cX6_law 14 = .ok (.istore_n 1, 1) := dk_60 (dk_at dksX6_law_0 14 rfl rfl)
theorem dX6_law_15 : decode cX6_law 15 = .ok (.aload_n 0, 1) := dk_42 (dk_at dksX6_law_0 15 rfl rfl)
theorem dX6_law_16 : decode cX6_law 16 = .ok (.aload_n 0, 1) := dk_42 (dk_at dksX6_law_0 16 rfl rfl)
theorem dX6_law_17 : decode cX6_law 17 = .ok (.getfield 22, 3) := dk_180 0 22 (dk_at dksX6_law_0 17 rfl rfl)
theorem dX6_law_20 : decode cX6_law 20 = .ok (.iconst (-1), 1) := dk_2 (dk_at dksX6_law_0 20 rfl rfl)
theorem dX6_law_21 : decode cX6_law 21 = .ok (.if_icmp .eq 7, 3) := dk_159 0 7 (dk_at dksX6_law_0 21 rfl rfl)
theorem dX6_law_24 : decode cX6_law 24 = .ok (.iconst 1, 1) := dk_4 (dk_at dksX6_law_1 0 rfl rfl)
theorem dX6_law_25 : decode cX6_law 25 = .ok (.goto 4, 3) := dk_167 0 4 (dk_at dksX6_law_1 1 rfl rfl)
theorem dX6_law_28 : decode cX6_law 28 = .ok (.iconst 0, 1) := dk_3 (dk_at dksX6_law_1 4 rfl rfl)
theorem dX6_law_29 : decode cX6_law 29 = .ok (.putfield 41, 3) := dk_181 0 41 (dk_at dksX6_law_1 5 rfl rfl)
theorem dX6_law_32 : decode cX6_law 32 = .ok (.aload_n 0, 1) := dk_42 (dk_at dksX6_law_1 8 rfl rfl)
theorem dX6_law_33 : decode cX6_law 33 = .ok (.getfield 41, 3) := dk_180 0 41 (dk_at dksX6_law_1 9 rfl rfl)
theorem dX6_law_36 : decode cX6_law 36 = .ok (.ifCond .le 5, 3) := dk_158 0 5 (dk_at dksX6_law_1 12 rfl rfl)
theorem dX6_law_39 : decode cX6_law 39 = .ok (.iconst 0, 1) := dk_3 (dk_at dksX6_law_1 15 rfl rfl)
theorem dX6_law_40 : decode cX6_law 40 = .ok (.ireturn, 1) := dk_172 (dk_at dksX6_law_1 16 rfl rfl)
theorem dX6_law_41 : decode cX6_law 41 = .ok (.aload_n 0, 1) := dk_42 (dk_at dksX6_law_1 17 rfl rfl)
theorem dX6_law_42 : decode cX6_law 42 = .ok (.getfield 7, 3) := dk_180 0 7 (dk_at dksX6_law_1 18 rfl rfl)
theorem dX6_law_45 : decode cX6_law 45 = .ok (.bipush 10, 2) := dk_16 10 (dk_at dksX6_law_1 21 rfl rfl)
theorem dX6_law_47 : decode cX6_law 47 = .ok (.iload_n 1, 1) := dk_27 (dk_at dksX6_law_1 23 rfl rfl)
theorem dX6_law_48 : decode cX6_law 48 = .ok (.iastore, 1) := dk_79 (dk_at dksX6_law_2 0 rfl rfl)
theorem dX6_law_49 : decode cX6_law 49 = .ok (.aload_n 0, 1) := dk_42 (dk_at dksX6_law_2 1 rfl rfl)
theorem dX6_law_50 : decode cX6_law 50 = .ok (.getfield 7, 3) := dk_180 0 7 (dk_at dksX6_law_2 2 rfl rfl)
theorem dX6_law_53 : decode cX6_law 53 = .ok (.bipush 11, 2) := dk_16 11 (dk_at dksX6_law_2 5 rfl rfl)
theorem dX6_law_55 : decode cX6_law 55 = .ok (.aload_n 0, 1) := dk_42 (dk_at dksX6_law_2 7 rfl rfl)
theorem dX6_law_56 : decode cX6_law 56 = .ok (.getfield 57, 3) := dk_180 0 57 (dk_at dksX6_law_2 8 rfl rfl)
theorem dX6_law_59 : decode cX6_law 59 = .ok (.iastore, 1) := dk_79 (dk_at dksX6_law_2 11 rfl rfl)
theorem dX6_law_60 : decode cX6_law 60 = .ok (.iconst 0, 1) := dk_3 (dk_at dksX6_law_2 12 rfl rfl)
theorem dX6_law_61 : decode cX6_law 61 = .ok (.istore_n 2, 1) := dk_61 (dk_at dksX6_law_2 13 rfl rfl)
theorem dX6_law_62 : decode cX6_law 62 = .ok (.iload_n 2, 1) := dk_28 (dk_at dksX6_law_2 14 rfl rfl)
theorem dX6_law_63 : decode cX6_law 63 = .ok (.aload_n 0, 1) := dk_42 (dk_at dksX6_law_2 15 rfl rfl)
theorem dX6_law_64 : decode cX6_law 64 = .ok (.getfield 57, 3) := dk_180 0 57 (dk_at dksX6_law_2 16 rfl rfl)
theorem dX6_law_67 : decode cX6_law 67 = .ok (.if_icmp .ge 25, 3) := dk_162 0 25 (dk_at dksX6_law_2 19 rfl rfl)
theorem dX6_law_70 : decode cX6_law 70 = .ok (.aload_n 0, 1) := dk_42 (dk_at dksX6_law_2 22 rfl rfl)
theorem dX6_law_71 : decode cX6_law 71 = .ok (.getfield 7, 3) := dk_180 0 7 (dk_at dksX6_law_3 0 rfl rfl)
theorem dX6_law_74 : decode cX6_law 74 = .ok (.sipush 542, 3) := dk_17 2 30 (dk_at dksX6_law_3 3 rfl rfl)
theorem dX6_law_77 : decode cX6_law 77 = .ok (.iload_n 2, 1) := dk_28 (dk_at dksX6_law_3 6 rfl rfl)
theorem dX6_law_78 : decode cX6_law 78 = .ok (.iadd, 1) := dk_96 (dk_at dksX6_law_3 7 rfl rfl)
theorem dX6_law_79 : decode cX6_law 79 = .ok (.aload_n 0, 1) := dk_42 (dk_at dksX6_law_3 8 rfl rfl)
theorem dX6_law_80 : decode cX6_law 80 = .ok (.getfield 19, 3) := dk_180 0 19 (dk_at dksX6_law_3 9 rfl rfl)
theorem dX6_law_83 : decode cX6_law 83 = .ok (.iload_n 2, 1) := dk_28 (dk_at dksX6_law_3 12 rfl rfl)
theorem dX6_law_84 : decode cX6_law 84 = .ok (.iaload, 1) := dk_46 (dk_at dksX6_law_3 13 rfl rfl)
theorem dX6_law_85 : decode cX6_law 85 = .ok (.iastore, 1) := dk_79 (dk_at dksX6_law_3 14 rfl rfl)
theorem dX6_law_86 : decode cX6_law 86 = .ok (.iinc 2 1, 3) := dk_132 2 1 (dk_at dksX6_law_3 15 rfl rfl)
theorem dX6_law_89 : decode cX6_law 89 = .ok (.goto (-27), 3) := dk_167 255 229 (dk_at dksX6_law_3 18 rfl rfl)
theorem dX6_law_92 : decode cX6_law 92 = .ok (.iload_n 1, 1) := dk_27 (dk_at dksX6_law_3 21 rfl rfl)
theorem dX6_law_93 : decode cX6_law 93 = .ok (.ireturn, 1) := dk_172 (dk_at dksX6_law_3 22 rfl rfl)
abbrev cX6_fault : ByteArray := prog_23_method_32_code
def yX6_fault : MethodName := ⟨RX6, "fault", "()I"⟩
def dkwX6_fault_0 : List UInt8 := [42, 3, 181, 0, 41, 42, 180, 0, 22, 172]
abbrev dktX6_fault_0 : List UInt8 := dkwX6_fault_0 ++ []
theorem dksX6_fault_0 : cX6_fault.data.toList.drop 0 = dktX6_fault_0 := by decide +kernel
theorem dX6_fault_0 : decode cX6_fault 0 = .ok (.aload_n 0, 1) := dk_42 (dk_at dksX6_fault_0 0 rfl rfl)
theorem dX6_fault_1 : decode cX6_fault 1 = .ok (.iconst 0, 1) := dk_3 (dk_at dksX6_fault_0 1 rfl rfl)
theorem dX6_fault_2 : decode cX6_fault 2 = .ok (.putfield 41, 3) := dk_181 0 41 (dk_at dksX6_fault_0 2 rfl rfl)
theorem dX6_fault_5 : decode cX6_fault 5 = .ok (.aload_n 0, 1) := dk_42 (dk_at dksX6_fault_0 5 rfl rfl)
theorem dX6_fault_6 : decode cX6_fault 6 = .ok (.getfield 22, 3) := dk_180 0 22 (dk_at dksX6_fault_0 6 rfl rfl)
theorem dX6_fault_9 : decode cX6_fault 9 = .ok (.ireturn, 1) := dk_172 (dk_at dksX6_fault_0 9 rfl rfl)
abbrev cX6_house : ByteArray := prog_23_method_34_code
def yX6_house : MethodName := ⟨RX6, "house", "(II)I"⟩
def dkwX6_house_4 : List UInt8 := [167, 0, 17, 28, 4, 160, 0, 7, 29, 167, 0, 8, 42, 27, 182, 0, 206, 172]
abbrev dktX6_house_4 : List UInt8 := dkwX6_house_4 ++ []
def dkwX6_house_3 : List UInt8 := [3, 96, 62, 132, 4, 1, 167, 255, 223, 28, 154, 0, 15, 42, 180, 0, 7, 16, 12, 27, 96, 46]
abbrev dktX6_house_3 : List UInt8 := dkwX6_house_3 ++ dktX6_house_4
def dkwX6_house_2 : List UInt8 := [180, 0, 7, 5, 46, 162, 0, 28, 29, 42, 21, 4, 5, 182, 0, 203, 27, 160, 0, 7, 4, 167, 0, 4]
abbrev dktX6_house_2 : List UInt8 := dkwX6_house_2 ++ dktX6_house_3
def dkwX6_house_1 : List UInt8 := [167, 0, 4, 3, 181, 0, 41, 42, 180, 0, 41, 158, 0, 5, 3, 172, 3, 62, 3, 54, 4, 21, 4, 42]
abbrev dktX6_house_1 : List UInt8 := dkwX6_house_1 ++ dktX6_house_2
def dkwX6_house_0 : List UInt8 := [42, 42, 27, 182, 0, 200, 154, 0, 7, 4, 167, 0, 17, 28, 3, 5, 184, 0, 44, 154, 0, 7, 5]
abbrev dktX6_house_0 : List UInt8 := dkwX6_house_0 ++ dktX6_house_1
theorem dksX6_house_0 : cX6_house.data.toList.drop 0 = dktX6_house_0 := by decide +kernel
theorem dksX6_house_1 : cX6_house.data.toList.drop 23 = dktX6_house_1 := dk_seg dksX6_house_0 23 rfl rfl
theorem dksX6_house_2 : cX6_house.data.toList.drop 47 = dktX6_house_2 := dk_seg dksX6_house_1 24 rfl rfl
theorem dksX6_house_3 : cX6_house.data.toList.drop 71 = dktX6_house_3 := dk_seg dksX6_house_2 24 rfl rfl
theorem dksX6_house_4 : cX6_house.data.toList.drop 93 = dktX6_house_4 := dk_seg dksX6_house_3 22 rfl rfl
theorem dX6_house_0 : decode cX6_house 0 = .ok (.aload_n 0, 1) := dk_42 (dk_at dksX6_house_0 0 rfl rfl)
theorem dX6_house_1 : decode cX6_house 1 = .ok (.aload_n 0, 1) := dk_42 (dk_at dksX6_house_0 1 rfl rfl)
theorem dX6_house_2 : decode cX6_house 2 = .ok (.iload_n 1, 1) := dk_27 (dk_at dksX6_house_0 2 rfl rfl)
theorem dX6_house_3 : decode cX6_house 3 = .ok (.invokevirtual 200, 3) := dk_182 0 200 (dk_at dksX6_house_0 3 rfl rfl)
theorem dX6_house_6 : decode cX6_house 6 = .ok (.ifCond .ne 7, 3) := dk_154 0 7 (dk_at dksX6_house_0 6 rfl rfl)
theorem dX6_house_9 : decode cX6_house 9 = .ok (.iconst 1, 1) := dk_4 (dk_at dksX6_house_0 9 rfl rfl)
theorem dX6_house_10 : decode cX6_house 10 = .ok (.goto 17, 3) := dk_167 0 17 (dk_at dksX6_house_0 10 rfl rfl)
theorem dX6_house_13 : decode cX6_house 13 = .ok (.iload_n 2, 1) := dk_28 (dk_at dksX6_house_0 13 rfl rfl)
theorem dX6_house_14 : decode cX6_house 14 = .ok (.iconst 0, 1) := dk_3 (dk_at dksX6_house_0 14 rfl rfl)
theorem dX6_house_15 : decode cX6_house 15 = .ok (.iconst 2, 1) := dk_5 (dk_at dksX6_house_0 15 rfl rfl)
theorem dX6_house_16 : decode cX6_house 16 = .ok (.invokestatic 44, 3) := dk_184 0 44 (dk_at dksX6_house_0 16 rfl rfl)
theorem dX6_house_19 : decode cX6_house 19 = .ok (.ifCond .ne 7, 3) := dk_154 0 7 (dk_at dksX6_house_0 19 rfl rfl)
theorem dX6_house_22 : decode cX6_house 22 = .ok (.iconst 2, 1) := dk_5 (dk_at dksX6_house_0 22 rfl rfl)
theorem dX6_house_23 : decode cX6_house 23 = .ok (.goto 4, 3) := dk_167 0 4 (dk_at dksX6_house_1 0 rfl rfl)
theorem dX6_house_26 : decode cX6_house 26 = .ok (.iconst 0, 1) := dk_3 (dk_at dksX6_house_1 3 rfl rfl)
theorem dX6_house_27 : decode cX6_house 27 = .ok (.putfield 41, 3) := dk_181 0 41 (dk_at dksX6_house_1 4 rfl rfl)
theorem dX6_house_30 : decode cX6_house 30 = .ok (.aload_n 0, 1) := dk_42 (dk_at dksX6_house_1 7 rfl rfl)
theorem dX6_house_31 : decode cX6_house 31 = .ok (.getfield 41, 3) := dk_180 0 41 (dk_at dksX6_house_1 8 rfl rfl)
theorem dX6_house_34 : decode cX6_house 34 = .ok (.ifCond .le 5, 3) := dk_158 0 5 (dk_at dksX6_house_1 11 rfl rfl)
theorem dX6_house_37 : decode cX6_house 37 = .ok (.iconst 0, 1) := dk_3 (dk_at dksX6_house_1 14 rfl rfl)
theorem dX6_house_38 : decode cX6_house 38 = .ok (.ireturn, 1) := dk_172 (dk_at dksX6_house_1 15 rfl rfl)
theorem dX6_house_39 : decode cX6_house 39 = .ok (.iconst 0, 1) := dk_3 (dk_at dksX6_house_1 16 rfl rfl)
theorem dX6_house_40 : decode cX6_house 40 = .ok (.istore_n 3, 1) := dk_62 (dk_at dksX6_house_1 17 rfl rfl)
theorem dX6_house_41 : decode cX6_house 41 = .ok (.iconst 0, 1) := dk_3 (dk_at dksX6_house_1 18 rfl rfl)
theorem dX6_house_42 : decode cX6_house 42 = .ok (.istore 4, 2) := dk_54 4 (dk_at dksX6_house_1 19 rfl rfl)
theorem dX6_house_44 : decode cX6_house 44 = .ok (.iload 4, 2) := dk_21 4 (dk_at dksX6_house_1 21 rfl rfl)
theorem dX6_house_46 : decode cX6_house 46 = .ok (.aload_n 0, 1) := dk_42 (dk_at dksX6_house_1 23 rfl rfl)
theorem dX6_house_47 : decode cX6_house 47 = .ok (.getfield 7, 3) := dk_180 0 7 (dk_at dksX6_house_2 0 rfl rfl)
theorem dX6_house_50 : decode cX6_house 50 = .ok (.iconst 2, 1) := dk_5 (dk_at dksX6_house_2 3 rfl rfl)
theorem dX6_house_51 : decode cX6_house 51 = .ok (.iaload, 1) := dk_46 (dk_at dksX6_house_2 4 rfl rfl)
theorem dX6_house_52 : decode cX6_house 52 = .ok (.if_icmp .ge 28, 3) := dk_162 0 28 (dk_at dksX6_house_2 5 rfl rfl)
theorem dX6_house_55 : decode cX6_house 55 = .ok (.iload_n 3, 1) := dk_29 (dk_at dksX6_house_2 8 rfl rfl)
theorem dX6_house_56 : decode cX6_house 56 = .ok (.aload_n 0, 1) := dk_42 (dk_at dksX6_house_2 9 rfl rfl)
theorem dX6_house_57 : decode cX6_house 57 = .ok (.iload 4, 2) := dk_21 4 (dk_at dksX6_house_2 10 rfl rfl)
theorem dX6_house_59 : decode cX6_house 59 = .ok (.iconst 2, 1) := dk_5 (dk_at dksX6_house_2 12 rfl rfl)
theorem dX6_house_60 : decode cX6_house 60 = .ok (.invokevirtual 203, 3) := dk_182 0 203 (dk_at dksX6_house_2 13 rfl rfl)
theorem dX6_house_63 : decode cX6_house 63 = .ok (.iload_n 1, 1) := dk_27 (dk_at dksX6_house_2 16 rfl rfl)
theorem dX6_house_64 : decode cX6_house 64 = .ok (.if_icmp .ne 7, 3) := dk_160 0 7 (dk_at dksX6_house_2 17 rfl rfl)
theorem dX6_house_67 : decode cX6_house 67 = .ok (.iconst 1, 1) := dk_4 (dk_at dksX6_house_2 20 rfl rfl)
theorem dX6_house_68 : decode cX6_house 68 = .ok (.goto 4, 3) := dk_167 0 4 (dk_at dksX6_house_2 21 rfl rfl)
theorem dX6_house_71 : decode cX6_house 71 = .ok (.iconst 0, 1) := dk_3 (dk_at dksX6_house_3 0 rfl rfl)
theorem dX6_house_72 : decode cX6_house 72 = .ok (.iadd, 1) := dk_96 (dk_at dksX6_house_3 1 rfl rfl)
theorem dX6_house_73 : decode cX6_house 73 = .ok (.istore_n 3, 1) := dk_62 (dk_at dksX6_house_3 2 rfl rfl)
theorem dX6_house_74 : decode cX6_house 74 = .ok (.iinc 4 1, 3) := dk_132 4 1 (dk_at dksX6_house_3 3 rfl rfl)
theorem dX6_house_77 : decode cX6_house 77 = .ok (.goto (-33), 3) := dk_167 255 223 (dk_at dksX6_house_3 6 rfl rfl)
theorem dX6_house_80 : decode cX6_house 80 = .ok (.iload_n 2, 1) := dk_28 (dk_at dksX6_house_3 9 rfl rfl)
theorem dX6_house_81 : decode cX6_house 81 = .ok (.ifCond .ne 15, 3) := dk_154 0 15 (dk_at dksX6_house_3 10 rfl rfl)
theorem dX6_house_84 : decode cX6_house 84 = .ok (.aload_n 0, 1) := dk_42 (dk_at dksX6_house_3 13 rfl rfl)
theorem dX6_house_85 : decode cX6_house 85 = .ok (.getfield 7, 3) := dk_180 0 7 (dk_at dksX6_house_3 14 rfl rfl)
theorem dX6_house_88 : decode cX6_house 88 = .ok (.bipush 12, 2) := dk_16 12 (dk_at dksX6_house_3 17 rfl rfl)
theorem dX6_house_90 : decode cX6_house 90 = .ok (.iload_n 1, 1) := dk_27 (dk_at dksX6_house_3 19 rfl rfl)
theorem dX6_house_91 : decode cX6_house 91 = .ok (.iadd, 1) := dk_96 (dk_at dksX6_house_3 20 rfl rfl)
theorem dX6_house_92 : decode cX6_house 92 = .ok (.iaload, 1) := dk_46 (dk_at dksX6_house_3 21 rfl rfl)
theorem dX6_house_93 : decode cX6_house 93 = .ok (.goto 17, 3) := dk_167 0 17 (dk_at dksX6_house_4 0 rfl rfl)
theorem dX6_house_96 : decode cX6_house 96 = .ok (.iload_n 2, 1) := dk_28 (dk_at dksX6_house_4 3 rfl rfl)
theorem dX6_house_97 : decode cX6_house 97 = .ok (.iconst 1, 1) := dk_4 (dk_at dksX6_house_4 4 rfl rfl)
theorem dX6_house_98 : decode cX6_house 98 = .ok (.if_icmp .ne 7, 3) := dk_160 0 7 (dk_at dksX6_house_4 5 rfl rfl)
theorem dX6_house_101 : decode cX6_house 101 = .ok (.iload_n 3, 1) := dk_29 (dk_at dksX6_house_4 8 rfl rfl)
theorem dX6_house_102 : decode cX6_house 102 = .ok (.goto 8, 3) := dk_167 0 8 (dk_at dksX6_house_4 9 rfl rfl)
theorem dX6_house_105 : decode cX6_house 105 = .ok (.aload_n 0, 1) := dk_42 (dk_at dksX6_house_4 12 rfl rfl)
theorem dX6_house_106 : decode cX6_house 106 = .ok (.iload_n 1, 1) := dk_27 (dk_at dksX6_house_4 13 rfl rfl)
theorem dX6_house_107 : decode cX6_house 107 = .ok (.invokevirtual 206, 3) := dk_182 0 206 (dk_at dksX6_house_4 14 rfl rfl)
theorem dX6_house_110 : decode cX6_house 110 = .ok (.ireturn, 1) := dk_172 (dk_at dksX6_house_4 17 rfl rfl)
abbrev cX6_isHouse : ByteArray := prog_23_method_7_code
def yX6_isHouse : MethodName := ⟨RX6, "isHouse", "(I)Z"⟩
def dkwX6_isHouse_0 : List UInt8 := [27, 3, 42, 180, 0, 7, 4, 46, 4, 100, 184, 0, 44, 172]
abbrev dktX6_isHouse_0 : List UInt8 := dkwX6_isHouse_0 ++ []
theorem dksX6_isHouse_0 : cX6_isHouse.data.toList.drop 0 = dktX6_isHouse_0 := by decide +kernel
theorem dX6_isHouse_0 : decode cX6_isHouse 0 = .ok (.iload_n 1, 1) := dk_27 (dk_at dksX6_isHouse_0 0 rfl rfl)
theorem dX6_isHouse_1 : decode cX6_isHouse 1 = .ok (.iconst 0, 1) := dk_3 (dk_at dksX6_isHouse_0 1 rfl rfl)
theorem dX6_isHouse_2 : decode cX6_isHouse 2 = .ok (.aload_n 0, 1) := dk_42 (dk_at dksX6_isHouse_0 2 rfl rfl)
theorem dX6_isHouse_3 : decode cX6_isHouse 3 = .ok (.getfield 7, 3) := dk_180 0 7 (dk_at dksX6_isHouse_0 3 rfl rfl)
theorem dX6_isHouse_6 : decode cX6_isHouse 6 = .ok (.iconst 1, 1) := dk_4 (dk_at dksX6_isHouse_0 6 rfl rfl)
theorem dX6_isHouse_7 : decode cX6_isHouse 7 = .ok (.iaload, 1) := dk_46 (dk_at dksX6_isHouse_0 7 rfl rfl)
theorem dX6_isHouse_8 : decode cX6_isHouse 8 = .ok (.iconst 1, 1) := dk_4 (dk_at dksX6_isHouse_0 8 rfl rfl)
theorem dX6_isHouse_9 : decode cX6_isHouse 9 = .ok (.isub, 1) := dk_100 (dk_at dksX6_isHouse_0 9 rfl rfl)
theorem dX6_isHouse_10 : decode cX6_isHouse 10 = .ok (.invokestatic 44, 3) := dk_184 0 44 (dk_at dksX6_isHouse_0 10 rfl rfl)
theorem dX6_isHouse_13 : decode cX6_isHouse 13 = .ok (.ireturn, 1) := dk_172 (dk_at dksX6_isHouse_0 13 rfl rfl)
abbrev cX6_ofWalker : ByteArray := prog_23_method_4_code
def yX6_ofWalker : MethodName := ⟨RX6, "ofWalker", "(II)I"⟩
def dkwX6_ofWalker_0 : List UInt8 := [42, 180, 0, 7, 16, 20, 7, 27, 104, 96, 28, 96, 46, 172]
abbrev dktX6_ofWalker_0 : List UInt8 := dkwX6_ofWalker_0 ++ []
theorem dksX6_ofWalker_0 : cX6_ofWalker.data.toList.drop 0 = dktX6_ofWalker_0 := by decide +kernel
theorem dX6_ofWalker_0 : decode cX6_ofWalker 0 = .ok (.aload_n 0, 1) := dk_42 (dk_at dksX6_ofWalker_0 0 rfl rfl)
theorem dX6_ofWalker_1 : decode cX6_ofWalker 1 = .ok (.getfield 7, 3) := dk_180 0 7 (dk_at dksX6_ofWalker_0 1 rfl rfl)
theorem dX6_ofWalker_4 : decode cX6_ofWalker 4 = .ok (.bipush 20, 2) := dk_16 20 (dk_at dksX6_ofWalker_0 4 rfl rfl)
theorem dX6_ofWalker_6 : decode cX6_ofWalker 6 = .ok (.iconst 4, 1) := dk_7 (dk_at dksX6_ofWalker_0 6 rfl rfl)
theorem dX6_ofWalker_7 : decode cX6_ofWalker 7 = .ok (.iload_n 1, 1) := dk_27 (dk_at dksX6_ofWalker_0 7 rfl rfl)
theorem dX6_ofWalker_8 : decode cX6_ofWalker 8 = .ok (.imul, 1) := dk_104 (dk_at dksX6_ofWalker_0 8 rfl rfl)
theorem dX6_ofWalker_9 : decode cX6_ofWalker 9 = .ok (.iadd, 1) := dk_96 (dk_at dksX6_ofWalker_0 9 rfl rfl)
theorem dX6_ofWalker_10 : decode cX6_ofWalker 10 = .ok (.iload_n 2, 1) := dk_28 (dk_at dksX6_ofWalker_0 10 rfl rfl)
theorem dX6_ofWalker_11 : decode cX6_ofWalker 11 = .ok (.iadd, 1) := dk_96 (dk_at dksX6_ofWalker_0 11 rfl rfl)
theorem dX6_ofWalker_12 : decode cX6_ofWalker 12 = .ok (.iaload, 1) := dk_46 (dk_at dksX6_ofWalker_0 12 rfl rfl)
theorem dX6_ofWalker_13 : decode cX6_ofWalker 13 = .ok (.ireturn, 1) := dk_172 (dk_at dksX6_ofWalker_0 13 rfl rfl)
abbrev cX6_beadsOf : ByteArray := prog_23_method_33_code
def yX6_beadsOf : MethodName := ⟨RX6, "beadsOf", "(I)I"⟩
def dkwX6_beadsOf_1 : List UInt8 := [160, 0, 7, 4, 167, 0, 4, 3, 96, 61, 132, 3, 1, 167, 255, 225, 28, 172]
abbrev dktX6_beadsOf_1 : List UInt8 := dkwX6_beadsOf_1 ++ []
def dkwX6_beadsOf_0 : List UInt8 := [3, 61, 3, 62, 29, 42, 180, 0, 7, 7, 46, 162, 0, 27, 28, 42, 29, 5, 182, 0, 196, 27]
abbrev dktX6_beadsOf_0 : List UInt8 := dkwX6_beadsOf_0 ++ dktX6_beadsOf_1
theorem dksX6_beadsOf_0 : cX6_beadsOf.data.toList.drop 0 = dktX6_beadsOf_0 := by decide +kernel
theorem dksX6_beadsOf_1 : cX6_beadsOf.data.toList.drop 22 = dktX6_beadsOf_1 := dk_seg dksX6_beadsOf_0 22 rfl rfl
theorem dX6_beadsOf_0 : decode cX6_beadsOf 0 = .ok (.iconst 0, 1) := dk_3 (dk_at dksX6_beadsOf_0 0 rfl rfl)
theorem dX6_beadsOf_1 : decode cX6_beadsOf 1 = .ok (.istore_n 2, 1) := dk_61 (dk_at dksX6_beadsOf_0 1 rfl rfl)
theorem dX6_beadsOf_2 : decode cX6_beadsOf 2 = .ok (.iconst 0, 1) := dk_3 (dk_at dksX6_beadsOf_0 2 rfl rfl)
theorem dX6_beadsOf_3 : decode cX6_beadsOf 3 = .ok (.istore_n 3, 1) := dk_62 (dk_at dksX6_beadsOf_0 3 rfl rfl)
theorem dX6_beadsOf_4 : decode cX6_beadsOf 4 = .ok (.iload_n 3, 1) := dk_29 (dk_at dksX6_beadsOf_0 4 rfl rfl)
theorem dX6_beadsOf_5 : decode cX6_beadsOf 5 = .ok (.aload_n 0, 1) := dk_42 (dk_at dksX6_beadsOf_0 5 rfl rfl)
theorem dX6_beadsOf_6 : decode cX6_beadsOf 6 = .ok (.getfield 7, 3) := dk_180 0 7 (dk_at dksX6_beadsOf_0 6 rfl rfl)
theorem dX6_beadsOf_9 : decode cX6_beadsOf 9 = .ok (.iconst 4, 1) := dk_7 (dk_at dksX6_beadsOf_0 9 rfl rfl)
theorem dX6_beadsOf_10 : decode cX6_beadsOf 10 = .ok (.iaload, 1) := dk_46 (dk_at dksX6_beadsOf_0 10 rfl rfl)
theorem dX6_beadsOf_11 : decode cX6_beadsOf 11 = .ok (.if_icmp .ge 27, 3) := dk_162 0 27 (dk_at dksX6_beadsOf_0 11 rfl rfl)
theorem dX6_beadsOf_14 : decode cX6_beadsOf 14 = .ok (.iload_n 2, 1) := dk_28 (dk_at dksX6_beadsOf_0 14 rfl rfl)
theorem dX6_beadsOf_15 : decode cX6_beadsOf 15 = .ok (.aload_n 0, 1) := dk_42 (dk_at dksX6_beadsOf_0 15 rfl rfl)
theorem dX6_beadsOf_16 : decode cX6_beadsOf 16 = .ok (.iload_n 3, 1) := dk_29 (dk_at dksX6_beadsOf_0 16 rfl rfl)
theorem dX6_beadsOf_17 : decode cX6_beadsOf 17 = .ok (.iconst 2, 1) := dk_5 (dk_at dksX6_beadsOf_0 17 rfl rfl)
theorem dX6_beadsOf_18 : decode cX6_beadsOf 18 = .ok (.invokevirtual 196, 3) := dk_182 0 196 (dk_at dksX6_beadsOf_0 18 rfl rfl)
theorem dX6_beadsOf_21 : decode cX6_beadsOf 21 = .ok (.iload_n 1, 1) := dk_27 (dk_at dksX6_beadsOf_0 21 rfl rfl)
theorem dX6_beadsOf_22 : decode cX6_beadsOf 22 = .ok (.if_icmp .ne 7, 3) := dk_160 0 7 (dk_at dksX6_beadsOf_1 0 rfl rfl)
theorem dX6_beadsOf_25 : decode cX6_beadsOf 25 = .ok (.iconst 1, 1) := dk_4 (dk_at dksX6_beadsOf_1 3 rfl rfl)
theorem dX6_beadsOf_26 : decode cX6_beadsOf 26 = .ok (.goto 4, 3) := dk_167 0 4 (dk_at dksX6_beadsOf_1 4 rfl rfl)
theorem dX6_beadsOf_29 : decode cX6_beadsOf 29 = .ok (.iconst 0, 1) := dk_3 (dk_at dksX6_beadsOf_1 7 rfl rfl)
theorem dX6_beadsOf_30 : decode cX6_beadsOf 30 = .ok (.iadd, 1) := dk_96 (dk_at dksX6_beadsOf_1 8 rfl rfl)
theorem dX6_beadsOf_31 : decode cX6_beadsOf 31 = .ok (.istore_n 2, 1) := dk_61 (dk_at dksX6_beadsOf_1 9 rfl rfl)
theorem dX6_beadsOf_32 : decode cX6_beadsOf 32 = .ok (.iinc 3 1, 3) := dk_132 3 1 (dk_at dksX6_beadsOf_1 10 rfl rfl)
theorem dX6_beadsOf_35 : decode cX6_beadsOf 35 = .ok (.goto (-31), 3) := dk_167 255 225 (dk_at dksX6_beadsOf_1 13 rfl rfl)
theorem dX6_beadsOf_38 : decode cX6_beadsOf 38 = .ok (.iload_n 2, 1) := dk_28 (dk_at dksX6_beadsOf_1 16 rfl rfl)
theorem dX6_beadsOf_39 : decode cX6_beadsOf 39 = .ok (.ireturn, 1) := dk_172 (dk_at dksX6_beadsOf_1 17 rfl rfl)
abbrev cX6_ofEntry : ByteArray := prog_23_method_6_code
def yX6_ofEntry : MethodName := ⟨RX6, "ofEntry", "(II)I"⟩
def dkwX6_ofEntry_0 : List UInt8 := [42, 180, 0, 7, 16, 122, 16, 7, 27, 104, 96, 28, 96, 46, 172]
abbrev dktX6_ofEntry_0 : List UInt8 := dkwX6_ofEntry_0 ++ []
theorem dksX6_ofEntry_0 : cX6_ofEntry.data.toList.drop 0 = dktX6_ofEntry_0 := by decide +kernel
theorem dX6_ofEntry_0 : decode cX6_ofEntry 0 = .ok (.aload_n 0, 1) := dk_42 (dk_at dksX6_ofEntry_0 0 rfl rfl)
theorem dX6_ofEntry_1 : decode cX6_ofEntry 1 = .ok (.getfield 7, 3) := dk_180 0 7 (dk_at dksX6_ofEntry_0 1 rfl rfl)
theorem dX6_ofEntry_4 : decode cX6_ofEntry 4 = .ok (.bipush 122, 2) := dk_16 122 (dk_at dksX6_ofEntry_0 4 rfl rfl)
theorem dX6_ofEntry_6 : decode cX6_ofEntry 6 = .ok (.bipush 7, 2) := dk_16 7 (dk_at dksX6_ofEntry_0 6 rfl rfl)
theorem dX6_ofEntry_8 : decode cX6_ofEntry 8 = .ok (.iload_n 1, 1) := dk_27 (dk_at dksX6_ofEntry_0 8 rfl rfl)
theorem dX6_ofEntry_9 : decode cX6_ofEntry 9 = .ok (.imul, 1) := dk_104 (dk_at dksX6_ofEntry_0 9 rfl rfl)
theorem dX6_ofEntry_10 : decode cX6_ofEntry 10 = .ok (.iadd, 1) := dk_96 (dk_at dksX6_ofEntry_0 10 rfl rfl)
theorem dX6_ofEntry_11 : decode cX6_ofEntry 11 = .ok (.iload_n 2, 1) := dk_28 (dk_at dksX6_ofEntry_0 11 rfl rfl)
theorem dX6_ofEntry_12 : decode cX6_ofEntry 12 = .ok (.iadd, 1) := dk_96 (dk_at dksX6_ofEntry_0 12 rfl rfl)
theorem dX6_ofEntry_13 : decode cX6_ofEntry 13 = .ok (.iaload, 1) := dk_46 (dk_at dksX6_ofEntry_0 13 rfl rfl)
theorem dX6_ofEntry_14 : decode cX6_ofEntry 14 = .ok (.ireturn, 1) := dk_172 (dk_at dksX6_ofEntry_0 14 rfl rfl)
abbrev cX6_walker : ByteArray := prog_23_method_35_code
def yX6_walker : MethodName := ⟨RX6, "walker", "(II)I"⟩
def dkwX6_walker_3 : List UInt8 := [182, 0, 196, 27, 160, 0, 11, 42, 21, 4, 3, 182, 0, 196, 62, 132, 4, 1, 167, 255, 223, 29, 172]
abbrev dktX6_walker_3 : List UInt8 := dkwX6_walker_3 ++ []
def dkwX6_walker_2 : List UInt8 := [182, 0, 203, 172, 2, 62, 3, 54, 4, 21, 4, 42, 180, 0, 7, 7, 46, 162, 0, 28, 42, 21, 4, 4]
abbrev dktX6_walker_2 : List UInt8 := dkwX6_walker_2 ++ dktX6_walker_3
def dkwX6_walker_1 : List UInt8 := [167, 0, 4, 3, 181, 0, 41, 42, 180, 0, 41, 158, 0, 5, 3, 172, 28, 7, 162, 0, 10, 42, 27, 28]
abbrev dktX6_walker_1 : List UInt8 := dkwX6_walker_1 ++ dktX6_walker_2
def dkwX6_walker_0 : List UInt8 := [42, 42, 27, 182, 0, 209, 154, 0, 7, 4, 167, 0, 17, 28, 3, 7, 184, 0, 44, 154, 0, 7, 5]
abbrev dktX6_walker_0 : List UInt8 := dkwX6_walker_0 ++ dktX6_walker_1
theorem dksX6_walker_0 : cX6_walker.data.toList.drop 0 = dktX6_walker_0 := by decide +kernel
theorem dksX6_walker_1 : cX6_walker.data.toList.drop 23 = dktX6_walker_1 := dk_seg dksX6_walker_0 23 rfl rfl
theorem dksX6_walker_2 : cX6_walker.data.toList.drop 47 = dktX6_walker_2 := dk_seg dksX6_walker_1 24 rfl rfl
theorem dksX6_walker_3 : cX6_walker.data.toList.drop 71 = dktX6_walker_3 := dk_seg dksX6_walker_2 24 rfl rfl
theorem dX6_walker_0 : decode cX6_walker 0 = .ok (.aload_n 0, 1) := dk_42 (dk_at dksX6_walker_0 0 rfl rfl)
theorem dX6_walker_1 : decode cX6_walker 1 = .ok (.aload_n 0, 1) := dk_42 (dk_at dksX6_walker_0 1 rfl rfl)
theorem dX6_walker_2 : decode cX6_walker 2 = .ok (.iload_n 1, 1) := dk_27 (dk_at dksX6_walker_0 2 rfl rfl)
theorem dX6_walker_3 : decode cX6_walker 3 = .ok (.invokevirtual 209, 3) := dk_182 0 209 (dk_at dksX6_walker_0 3 rfl rfl)
theorem dX6_walker_6 : decode cX6_walker 6 = .ok (.ifCond .ne 7, 3) := dk_154 0 7 (dk_at dksX6_walker_0 6 rfl rfl)
theorem dX6_walker_9 : decode cX6_walker 9 = .ok (.iconst 1, 1) := dk_4 (dk_at dksX6_walker_0 9 rfl rfl)
theorem dX6_walker_10 : decode cX6_walker 10 = .ok (.goto 17, 3) := dk_167 0 17 (dk_at dksX6_walker_0 10 rfl rfl)
theorem dX6_walker_13 : decode cX6_walker 13 = .ok (.iload_n 2, 1) := dk_28 (dk_at dksX6_walker_0 13 rfl rfl)
theorem dX6_walker_14 : decode cX6_walker 14 = .ok (.iconst 0, 1) := dk_3 (dk_at dksX6_walker_0 14 rfl rfl)
theorem dX6_walker_15 : decode cX6_walker 15 = .ok (.iconst 4, 1) := dk_7 (dk_at dksX6_walker_0 15 rfl rfl)
theorem dX6_walker_16 : decode cX6_walker 16 = .ok (.invokestatic 44, 3) := dk_184 0 44 (dk_at dksX6_walker_0 16 rfl rfl)
theorem dX6_walker_19 : decode cX6_walker 19 = .ok (.ifCond .ne 7, 3) := dk_154 0 7 (dk_at dksX6_walker_0 19 rfl rfl)
theorem dX6_walker_22 : decode cX6_walker 22 = .ok (.iconst 2, 1) := dk_5 (dk_at dksX6_walker_0 22 rfl rfl)
theorem dX6_walker_23 : decode cX6_walker 23 = .ok (.goto 4, 3) := dk_167 0 4 (dk_at dksX6_walker_1 0 rfl rfl)
theorem dX6_walker_26 : decode cX6_walker 26 = .ok (.iconst 0, 1) := dk_3 (dk_at dksX6_walker_1 3 rfl rfl)
theorem dX6_walker_27 : decode cX6_walker 27 = .ok (.putfield 41, 3) := dk_181 0 41 (dk_at dksX6_walker_1 4 rfl rfl)
theorem dX6_walker_30 : decode cX6_walker 30 = .ok (.aload_n 0, 1) := dk_42 (dk_at dksX6_walker_1 7 rfl rfl)
theorem dX6_walker_31 : decode cX6_walker 31 = .ok (.getfield 41, 3) := dk_180 0 41 (dk_at dksX6_walker_1 8 rfl rfl)
theorem dX6_walker_34 : decode cX6_walker 34 = .ok (.ifCond .le 5, 3) := dk_158 0 5 (dk_at dksX6_walker_1 11 rfl rfl)
theorem dX6_walker_37 : decode cX6_walker 37 = .ok (.iconst 0, 1) := dk_3 (dk_at dksX6_walker_1 14 rfl rfl)
theorem dX6_walker_38 : decode cX6_walker 38 = .ok (.ireturn, 1) := dk_172 (dk_at dksX6_walker_1 15 rfl rfl)
theorem dX6_walker_39 : decode cX6_walker 39 = .ok (.iload_n 2, 1) := dk_28 (dk_at dksX6_walker_1 16 rfl rfl)
theorem dX6_walker_40 : decode cX6_walker 40 = .ok (.iconst 4, 1) := dk_7 (dk_at dksX6_walker_1 17 rfl rfl)
theorem dX6_walker_41 : decode cX6_walker 41 = .ok (.if_icmp .ge 10, 3) := dk_162 0 10 (dk_at dksX6_walker_1 18 rfl rfl)
theorem dX6_walker_44 : decode cX6_walker 44 = .ok (.aload_n 0, 1) := dk_42 (dk_at dksX6_walker_1 21 rfl rfl)
theorem dX6_walker_45 : decode cX6_walker 45 = .ok (.iload_n 1, 1) := dk_27 (dk_at dksX6_walker_1 22 rfl rfl)
theorem dX6_walker_46 : decode cX6_walker 46 = .ok (.iload_n 2, 1) := dk_28 (dk_at dksX6_walker_1 23 rfl rfl)
theorem dX6_walker_47 : decode cX6_walker 47 = .ok (.invokevirtual 203, 3) := dk_182 0 203 (dk_at dksX6_walker_2 0 rfl rfl)
theorem dX6_walker_50 : decode cX6_walker 50 = .ok (.ireturn, 1) := dk_172 (dk_at dksX6_walker_2 3 rfl rfl)
theorem dX6_walker_51 : decode cX6_walker 51 = .ok (.iconst (-1), 1) := dk_2 (dk_at dksX6_walker_2 4 rfl rfl)
theorem dX6_walker_52 : decode cX6_walker 52 = .ok (.istore_n 3, 1) := dk_62 (dk_at dksX6_walker_2 5 rfl rfl)
theorem dX6_walker_53 : decode cX6_walker 53 = .ok (.iconst 0, 1) := dk_3 (dk_at dksX6_walker_2 6 rfl rfl)
theorem dX6_walker_54 : decode cX6_walker 54 = .ok (.istore 4, 2) := dk_54 4 (dk_at dksX6_walker_2 7 rfl rfl)
theorem dX6_walker_56 : decode cX6_walker 56 = .ok (.iload 4, 2) := dk_21 4 (dk_at dksX6_walker_2 9 rfl rfl)
theorem dX6_walker_58 : decode cX6_walker 58 = .ok (.aload_n 0, 1) := dk_42 (dk_at dksX6_walker_2 11 rfl rfl)
theorem dX6_walker_59 : decode cX6_walker 59 = .ok (.getfield 7, 3) := dk_180 0 7 (dk_at dksX6_walker_2 12 rfl rfl)
theorem dX6_walker_62 : decode cX6_walker 62 = .ok (.iconst 4, 1) := dk_7 (dk_at dksX6_walker_2 15 rfl rfl)
theorem dX6_walker_63 : decode cX6_walker 63 = .ok (.iaload, 1) := dk_46 (dk_at dksX6_walker_2 16 rfl rfl)
theorem dX6_walker_64 : decode cX6_walker 64 = .ok (.if_icmp .ge 28, 3) := dk_162 0 28 (dk_at dksX6_walker_2 17 rfl rfl)
theorem dX6_walker_67 : decode cX6_walker 67 = .ok (.aload_n 0, 1) := dk_42 (dk_at dksX6_walker_2 20 rfl rfl)
theorem dX6_walker_68 : decode cX6_walker 68 = .ok (.iload 4, 2) := dk_21 4 (dk_at dksX6_walker_2 21 rfl rfl)
theorem dX6_walker_70 : decode cX6_walker 70 = .ok (.iconst 1, 1) := dk_4 (dk_at dksX6_walker_2 23 rfl rfl)
theorem dX6_walker_71 : decode cX6_walker 71 = .ok (.invokevirtual 196, 3) := dk_182 0 196 (dk_at dksX6_walker_3 0 rfl rfl)
theorem dX6_walker_74 : decode cX6_walker 74 = .ok (.iload_n 1, 1) := dk_27 (dk_at dksX6_walker_3 3 rfl rfl)
theorem dX6_walker_75 : decode cX6_walker 75 = .ok (.if_icmp .ne 11, 3) := dk_160 0 11 (dk_at dksX6_walker_3 4 rfl rfl)
theorem dX6_walker_78 : decode cX6_walker 78 = .ok (.aload_n 0, 1) := dk_42 (dk_at dksX6_walker_3 7 rfl rfl)
theorem dX6_walker_79 : decode cX6_walker 79 = .ok (.iload 4, 2) := dk_21 4 (dk_at dksX6_walker_3 8 rfl rfl)
theorem dX6_walker_81 : decode cX6_walker 81 = .ok (.iconst 0, 1) := dk_3 (dk_at dksX6_walker_3 10 rfl rfl)
theorem dX6_walker_82 : decode cX6_walker 82 = .ok (.invokevirtual 196, 3) := dk_182 0 196 (dk_at dksX6_walker_3 11 rfl rfl)
theorem dX6_walker_85 : decode cX6_walker 85 = .ok (.istore_n 3, 1) := dk_62 (dk_at dksX6_walker_3 14 rfl rfl)
theorem dX6_walker_86 : decode cX6_walker 86 = .ok (.iinc 4 1, 3) := dk_132 4 1 (dk_at dksX6_walker_3 15 rfl rfl)
theorem dX6_walker_89 : decode cX6_walker 89 = .ok (.goto (-33), 3) := dk_167 255 223 (dk_at dksX6_walker_3 18 rfl rfl)
theorem dX6_walker_92 : decode cX6_walker 92 = .ok (.iload_n 3, 1) := dk_29 (dk_at dksX6_walker_3 21 rfl rfl)
theorem dX6_walker_93 : decode cX6_walker 93 = .ok (.ireturn, 1) := dk_172 (dk_at dksX6_walker_3 22 rfl rfl)
abbrev cX6_isWalker : ByteArray := prog_23_method_8_code
def yX6_isWalker : MethodName := ⟨RX6, "isWalker", "(I)Z"⟩
def dkwX6_isWalker_0 : List UInt8 := [27, 3, 42, 180, 0, 7, 5, 46, 4, 100, 184, 0, 44, 172]
abbrev dktX6_isWalker_0 : List UInt8 := dkwX6_isWalker_0 ++ []
theorem dksX6_isWalker_0 : cX6_isWalker.data.toList.drop 0 = dktX6_isWalker_0 := by decide +kernel
theorem dX6_isWalker_0 : decode cX6_isWalker 0 = .ok (.iload_n 1, 1) := dk_27 (dk_at dksX6_isWalker_0 0 rfl rfl)
theorem dX6_isWalker_1 : decode cX6_isWalker 1 = .ok (.iconst 0, 1) := dk_3 (dk_at dksX6_isWalker_0 1 rfl rfl)
theorem dX6_isWalker_2 : decode cX6_isWalker 2 = .ok (.aload_n 0, 1) := dk_42 (dk_at dksX6_isWalker_0 2 rfl rfl)
theorem dX6_isWalker_3 : decode cX6_isWalker 3 = .ok (.getfield 7, 3) := dk_180 0 7 (dk_at dksX6_isWalker_0 3 rfl rfl)
theorem dX6_isWalker_6 : decode cX6_isWalker 6 = .ok (.iconst 2, 1) := dk_5 (dk_at dksX6_isWalker_0 6 rfl rfl)
theorem dX6_isWalker_7 : decode cX6_isWalker 7 = .ok (.iaload, 1) := dk_46 (dk_at dksX6_isWalker_0 7 rfl rfl)
theorem dX6_isWalker_8 : decode cX6_isWalker 8 = .ok (.iconst 1, 1) := dk_4 (dk_at dksX6_isWalker_0 8 rfl rfl)
theorem dX6_isWalker_9 : decode cX6_isWalker 9 = .ok (.isub, 1) := dk_100 (dk_at dksX6_isWalker_0 9 rfl rfl)
theorem dX6_isWalker_10 : decode cX6_isWalker 10 = .ok (.invokestatic 44, 3) := dk_184 0 44 (dk_at dksX6_isWalker_0 10 rfl rfl)
theorem dX6_isWalker_13 : decode cX6_isWalker 13 = .ok (.ireturn, 1) := dk_172 (dk_at dksX6_isWalker_0 13 rfl rfl)
abbrev cX6_turn : ByteArray := prog_23_method_37_code
def yX6_turn : MethodName := ⟨RX6, "turn", "(II)I"⟩
def dkwX6_turn_2 : List UInt8 := [182, 0, 218, 167, 0, 9, 42, 27, 28, 182, 0, 212, 172]
abbrev dktX6_turn_2 : List UInt8 := dkwX6_turn_2 ++ []
def dkwX6_turn_1 : List UInt8 := [167, 0, 4, 3, 181, 0, 41, 42, 180, 0, 41, 158, 0, 5, 3, 172, 28, 5, 160, 0, 11, 42, 27]
abbrev dktX6_turn_1 : List UInt8 := dkwX6_turn_1 ++ dktX6_turn_2
def dkwX6_turn_0 : List UInt8 := [42, 42, 27, 182, 0, 215, 154, 0, 7, 4, 167, 0, 17, 28, 3, 5, 184, 0, 44, 154, 0, 7, 5]
abbrev dktX6_turn_0 : List UInt8 := dkwX6_turn_0 ++ dktX6_turn_1
theorem dksX6_turn_0 : cX6_turn.data.toList.drop 0 = dktX6_turn_0 := by decide +kernel
theorem dksX6_turn_1 : cX6_turn.data.toList.drop 23 = dktX6_turn_1 := dk_seg dksX6_turn_0 23 rfl rfl
theorem dksX6_turn_2 : cX6_turn.data.toList.drop 46 = dktX6_turn_2 := dk_seg dksX6_turn_1 23 rfl rfl
theorem dX6_turn_0 : decode cX6_turn 0 = .ok (.aload_n 0, 1) := dk_42 (dk_at dksX6_turn_0 0 rfl rfl)
theorem dX6_turn_1 : decode cX6_turn 1 = .ok (.aload_n 0, 1) := dk_42 (dk_at dksX6_turn_0 1 rfl rfl)
theorem dX6_turn_2 : decode cX6_turn 2 = .ok (.iload_n 1, 1) := dk_27 (dk_at dksX6_turn_0 2 rfl rfl)
theorem dX6_turn_3 : decode cX6_turn 3 = .ok (.invokevirtual 215, 3) := dk_182 0 215 (dk_at dksX6_turn_0 3 rfl rfl)
theorem dX6_turn_6 : decode cX6_turn 6 = .ok (.ifCond .ne 7, 3) := dk_154 0 7 (dk_at dksX6_turn_0 6 rfl rfl)
theorem dX6_turn_9 : decode cX6_turn 9 = .ok (.iconst 1, 1) := dk_4 (dk_at dksX6_turn_0 9 rfl rfl)
theorem dX6_turn_10 : decode cX6_turn 10 = .ok (.goto 17, 3) := dk_167 0 17 (dk_at dksX6_turn_0 10 rfl rfl)
theorem dX6_turn_13 : decode cX6_turn 13 = .ok (.iload_n 2, 1) := dk_28 (dk_at dksX6_turn_0 13 rfl rfl)
theorem dX6_turn_14 : decode cX6_turn 14 = .ok (.iconst 0, 1) := dk_3 (dk_at dksX6_turn_0 14 rfl rfl)
theorem dX6_turn_15 : decode cX6_turn 15 = .ok (.iconst 2, 1) := dk_5 (dk_at dksX6_turn_0 15 rfl rfl)
theorem dX6_turn_16 : decode cX6_turn 16 = .ok (.invokestatic 44, 3) := dk_184 0 44 (dk_at dksX6_turn_0 16 rfl rfl)
theorem dX6_turn_19 : decode cX6_turn 19 = .ok (.ifCond .ne 7, 3) := dk_154 0 7 (dk_at dksX6_turn_0 19 rfl rfl)
theorem dX6_turn_22 : decode cX6_turn 22 = .ok (.iconst 2, 1) := dk_5 (dk_at dksX6_turn_0 22 rfl rfl)
theorem dX6_turn_23 : decode cX6_turn 23 = .ok (.goto 4, 3) := dk_167 0 4 (dk_at dksX6_turn_1 0 rfl rfl)
theorem dX6_turn_26 : decode cX6_turn 26 = .ok (.iconst 0, 1) := dk_3 (dk_at dksX6_turn_1 3 rfl rfl)
theorem dX6_turn_27 : decode cX6_turn 27 = .ok (.putfield 41, 3) := dk_181 0 41 (dk_at dksX6_turn_1 4 rfl rfl)
theorem dX6_turn_30 : decode cX6_turn 30 = .ok (.aload_n 0, 1) := dk_42 (dk_at dksX6_turn_1 7 rfl rfl)
theorem dX6_turn_31 : decode cX6_turn 31 = .ok (.getfield 41, 3) := dk_180 0 41 (dk_at dksX6_turn_1 8 rfl rfl)
theorem dX6_turn_34 : decode cX6_turn 34 = .ok (.ifCond .le 5, 3) := dk_158 0 5 (dk_at dksX6_turn_1 11 rfl rfl)
theorem dX6_turn_37 : decode cX6_turn 37 = .ok (.iconst 0, 1) := dk_3 (dk_at dksX6_turn_1 14 rfl rfl)
theorem dX6_turn_38 : decode cX6_turn 38 = .ok (.ireturn, 1) := dk_172 (dk_at dksX6_turn_1 15 rfl rfl)
theorem dX6_turn_39 : decode cX6_turn 39 = .ok (.iload_n 2, 1) := dk_28 (dk_at dksX6_turn_1 16 rfl rfl)
theorem dX6_turn_40 : decode cX6_turn 40 = .ok (.iconst 2, 1) := dk_5 (dk_at dksX6_turn_1 17 rfl rfl)
theorem dX6_turn_41 : decode cX6_turn 41 = .ok (.if_icmp .ne 11, 3) := dk_160 0 11 (dk_at dksX6_turn_1 18 rfl rfl)
theorem dX6_turn_44 : decode cX6_turn 44 = .ok (.aload_n 0, 1) := dk_42 (dk_at dksX6_turn_1 21 rfl rfl)
theorem dX6_turn_45 : decode cX6_turn 45 = .ok (.iload_n 1, 1) := dk_27 (dk_at dksX6_turn_1 22 rfl rfl)
theorem dX6_turn_46 : decode cX6_turn 46 = .ok (.invokevirtual 218, 3) := dk_182 0 218 (dk_at dksX6_turn_2 0 rfl rfl)
theorem dX6_turn_49 : decode cX6_turn 49 = .ok (.goto 9, 3) := dk_167 0 9 (dk_at dksX6_turn_2 3 rfl rfl)
theorem dX6_turn_52 : decode cX6_turn 52 = .ok (.aload_n 0, 1) := dk_42 (dk_at dksX6_turn_2 6 rfl rfl)
theorem dX6_turn_53 : decode cX6_turn 53 = .ok (.iload_n 1, 1) := dk_27 (dk_at dksX6_turn_2 7 rfl rfl)
theorem dX6_turn_54 : decode cX6_turn 54 = .ok (.iload_n 2, 1) := dk_28 (dk_at dksX6_turn_2 8 rfl rfl)
theorem dX6_turn_55 : decode cX6_turn 55 = .ok (.invokevirtual 212, 3) := dk_182 0 212 (dk_at dksX6_turn_2 9 rfl rfl)
theorem dX6_turn_58 : decode cX6_turn 58 = .ok (.ireturn, 1) := dk_172 (dk_at dksX6_turn_2 12 rfl rfl)
abbrev cX6_isTurn : ByteArray := prog_23_method_9_code
def yX6_isTurn : MethodName := ⟨RX6, "isTurn", "(I)Z"⟩
def dkwX6_isTurn_0 : List UInt8 := [27, 3, 42, 180, 0, 7, 6, 46, 4, 100, 184, 0, 44, 172]
abbrev dktX6_isTurn_0 : List UInt8 := dkwX6_isTurn_0 ++ []
theorem dksX6_isTurn_0 : cX6_isTurn.data.toList.drop 0 = dktX6_isTurn_0 := by decide +kernel
theorem dX6_isTurn_0 : decode cX6_isTurn 0 = .ok (.iload_n 1, 1) := dk_27 (dk_at dksX6_isTurn_0 0 rfl rfl)
theorem dX6_isTurn_1 : decode cX6_isTurn 1 = .ok (.iconst 0, 1) := dk_3 (dk_at dksX6_isTurn_0 1 rfl rfl)
theorem dX6_isTurn_2 : decode cX6_isTurn 2 = .ok (.aload_n 0, 1) := dk_42 (dk_at dksX6_isTurn_0 2 rfl rfl)
theorem dX6_isTurn_3 : decode cX6_isTurn 3 = .ok (.getfield 7, 3) := dk_180 0 7 (dk_at dksX6_isTurn_0 3 rfl rfl)
theorem dX6_isTurn_6 : decode cX6_isTurn 6 = .ok (.iconst 3, 1) := dk_6 (dk_at dksX6_isTurn_0 6 rfl rfl)
theorem dX6_isTurn_7 : decode cX6_isTurn 7 = .ok (.iaload, 1) := dk_46 (dk_at dksX6_isTurn_0 7 rfl rfl)
theorem dX6_isTurn_8 : decode cX6_isTurn 8 = .ok (.iconst 1, 1) := dk_4 (dk_at dksX6_isTurn_0 8 rfl rfl)
theorem dX6_isTurn_9 : decode cX6_isTurn 9 = .ok (.isub, 1) := dk_100 (dk_at dksX6_isTurn_0 9 rfl rfl)
theorem dX6_isTurn_10 : decode cX6_isTurn 10 = .ok (.invokestatic 44, 3) := dk_184 0 44 (dk_at dksX6_isTurn_0 10 rfl rfl)
theorem dX6_isTurn_13 : decode cX6_isTurn 13 = .ok (.ireturn, 1) := dk_172 (dk_at dksX6_isTurn_0 13 rfl rfl)
abbrev cX6_missedOf : ByteArray := prog_23_method_36_code
def yX6_missedOf : MethodName := ⟨RX6, "missedOf", "(I)I"⟩
def dkwX6_missedOf_2 : List UInt8 := [182, 0, 212, 100, 172]
abbrev dktX6_missedOf_2 : List UInt8 := dkwX6_missedOf_2 ++ []
def dkwX6_missedOf_1 : List UInt8 := [182, 0, 196, 27, 164, 0, 7, 4, 167, 0, 4, 3, 96, 61, 132, 3, 1, 167, 255, 225, 28, 42, 27, 4]
abbrev dktX6_missedOf_1 : List UInt8 := dkwX6_missedOf_1 ++ dktX6_missedOf_2
def dkwX6_missedOf_0 : List UInt8 := [3, 61, 42, 27, 5, 182, 0, 212, 62, 29, 42, 180, 0, 7, 7, 46, 162, 0, 27, 28, 42, 29, 6]
abbrev dktX6_missedOf_0 : List UInt8 := dkwX6_missedOf_0 ++ dktX6_missedOf_1
theorem dksX6_missedOf_0 : cX6_missedOf.data.toList.drop 0 = dktX6_missedOf_0 := by decide +kernel
theorem dksX6_missedOf_1 : cX6_missedOf.data.toList.drop 23 = dktX6_missedOf_1 := dk_seg dksX6_missedOf_0 23 rfl rfl
theorem dksX6_missedOf_2 : cX6_missedOf.data.toList.drop 47 = dktX6_missedOf_2 := dk_seg dksX6_missedOf_1 24 rfl rfl
theorem dX6_missedOf_0 : decode cX6_missedOf 0 = .ok (.iconst 0, 1) := dk_3 (dk_at dksX6_missedOf_0 0 rfl rfl)
theorem dX6_missedOf_1 : decode cX6_missedOf 1 = .ok (.istore_n 2, 1) := dk_61 (dk_at dksX6_missedOf_0 1 rfl rfl)
theorem dX6_missedOf_2 : decode cX6_missedOf 2 = .ok (.aload_n 0, 1) := dk_42 (dk_at dksX6_missedOf_0 2 rfl rfl)
theorem dX6_missedOf_3 : decode cX6_missedOf 3 = .ok (.iload_n 1, 1) := dk_27 (dk_at dksX6_missedOf_0 3 rfl rfl)
theorem dX6_missedOf_4 : decode cX6_missedOf 4 = .ok (.iconst 2, 1) := dk_5 (dk_at dksX6_missedOf_0 4 rfl rfl)
theorem dX6_missedOf_5 : decode cX6_missedOf 5 = .ok (.invokevirtual 212, 3) := dk_182 0 212 (dk_at dksX6_missedOf_0 5 rfl rfl)
theorem dX6_missedOf_8 : decode cX6_missedOf 8 = .ok (.istore_n 3, 1) := dk_62 (dk_at dksX6_missedOf_0 8 rfl rfl)
theorem dX6_missedOf_9 : decode cX6_missedOf 9 = .ok (.iload_n 3, 1) := dk_29 (dk_at dksX6_missedOf_0 9 rfl rfl)
theorem dX6_missedOf_10 : decode cX6_missedOf 10 = .ok (.aload_n 0, 1) := dk_42 (dk_at dksX6_missedOf_0 10 rfl rfl)
theorem dX6_missedOf_11 : decode cX6_missedOf 11 = .ok (.getfield 7, 3) := dk_180 0 7 (dk_at dksX6_missedOf_0 11 rfl rfl)
theorem dX6_missedOf_14 : decode cX6_missedOf 14 = .ok (.iconst 4, 1) := dk_7 (dk_at dksX6_missedOf_0 14 rfl rfl)
theorem dX6_missedOf_15 : decode cX6_missedOf 15 = .ok (.iaload, 1) := dk_46 (dk_at dksX6_missedOf_0 15 rfl rfl)
theorem dX6_missedOf_16 : decode cX6_missedOf 16 = .ok (.if_icmp .ge 27, 3) := dk_162 0 27 (dk_at dksX6_missedOf_0 16 rfl rfl)
theorem dX6_missedOf_19 : decode cX6_missedOf 19 = .ok (.iload_n 2, 1) := dk_28 (dk_at dksX6_missedOf_0 19 rfl rfl)
theorem dX6_missedOf_20 : decode cX6_missedOf 20 = .ok (.aload_n 0, 1) := dk_42 (dk_at dksX6_missedOf_0 20 rfl rfl)
theorem dX6_missedOf_21 : decode cX6_missedOf 21 = .ok (.iload_n 3, 1) := dk_29 (dk_at dksX6_missedOf_0 21 rfl rfl)
theorem dX6_missedOf_22 : decode cX6_missedOf 22 = .ok (.iconst 3, 1) := dk_6 (dk_at dksX6_missedOf_0 22 rfl rfl)
theorem dX6_missedOf_23 : decode cX6_missedOf 23 = .ok (.invokevirtual 196, 3) := dk_182 0 196 (dk_at dksX6_missedOf_1 0 rfl rfl)
theorem dX6_missedOf_26 : decode cX6_missedOf 26 = .ok (.iload_n 1, 1) := dk_27 (dk_at dksX6_missedOf_1 3 rfl rfl)
theorem dX6_missedOf_27 : decode cX6_missedOf 27 = .ok (.if_icmp .le 7, 3) := dk_164 0 7 (dk_at dksX6_missedOf_1 4 rfl rfl)
theorem dX6_missedOf_30 : decode cX6_missedOf 30 = .ok (.iconst 1, 1) := dk_4 (dk_at dksX6_missedOf_1 7 rfl rfl)
theorem dX6_missedOf_31 : decode cX6_missedOf 31 = .ok (.goto 4, 3) := dk_167 0 4 (dk_at dksX6_missedOf_1 8 rfl rfl)
theorem dX6_missedOf_34 : decode cX6_missedOf 34 = .ok (.iconst 0, 1) := dk_3 (dk_at dksX6_missedOf_1 11 rfl rfl)
theorem dX6_missedOf_35 : decode cX6_missedOf 35 = .ok (.iadd, 1) := dk_96 (dk_at dksX6_missedOf_1 12 rfl rfl)
theorem dX6_missedOf_36 : decode cX6_missedOf 36 = .ok (.istore_n 2, 1) := dk_61 (dk_at dksX6_missedOf_1 13 rfl rfl)
theorem dX6_missedOf_37 : decode cX6_missedOf 37 = .ok (.iinc 3 1, 3) := dk_132 3 1 (dk_at dksX6_missedOf_1 14 rfl rfl)
theorem dX6_missedOf_40 : decode cX6_missedOf 40 = .ok (.goto (-31), 3) := dk_167 255 225 (dk_at dksX6_missedOf_1 17 rfl rfl)
theorem dX6_missedOf_43 : decode cX6_missedOf 43 = .ok (.iload_n 2, 1) := dk_28 (dk_at dksX6_missedOf_1 20 rfl rfl)
theorem dX6_missedOf_44 : decode cX6_missedOf 44 = .ok (.aload_n 0, 1) := dk_42 (dk_at dksX6_missedOf_1 21 rfl rfl)
theorem dX6_missedOf_45 : decode cX6_missedOf 45 = .ok (.iload_n 1, 1) := dk_27 (dk_at dksX6_missedOf_1 22 rfl rfl)
theorem dX6_missedOf_46 : decode cX6_missedOf 46 = .ok (.iconst 1, 1) := dk_4 (dk_at dksX6_missedOf_1 23 rfl rfl)
theorem dX6_missedOf_47 : decode cX6_missedOf 47 = .ok (.invokevirtual 212, 3) := dk_182 0 212 (dk_at dksX6_missedOf_2 0 rfl rfl)
theorem dX6_missedOf_50 : decode cX6_missedOf 50 = .ok (.isub, 1) := dk_100 (dk_at dksX6_missedOf_2 3 rfl rfl)
theorem dX6_missedOf_51 : decode cX6_missedOf 51 = .ok (.ireturn, 1) := dk_172 (dk_at dksX6_missedOf_2 4 rfl rfl)
abbrev cX6_ofTurn : ByteArray := prog_23_method_5_code
def yX6_ofTurn : MethodName := ⟨RX6, "ofTurn", "(II)I"⟩
def dkwX6_ofTurn_0 : List UInt8 := [42, 180, 0, 7, 16, 68, 6, 27, 104, 96, 28, 96, 46, 172]
abbrev dktX6_ofTurn_0 : List UInt8 := dkwX6_ofTurn_0 ++ []
theorem dksX6_ofTurn_0 : cX6_ofTurn.data.toList.drop 0 = dktX6_ofTurn_0 := by decide +kernel
theorem dX6_ofTurn_0 : decode cX6_ofTurn 0 = .ok (.aload_n 0, 1) := dk_42 (dk_at dksX6_ofTurn_0 0 rfl rfl)
theorem dX6_ofTurn_1 : decode cX6_ofTurn 1 = .ok (.getfield 7, 3) := dk_180 0 7 (dk_at dksX6_ofTurn_0 1 rfl rfl)
theorem dX6_ofTurn_4 : decode cX6_ofTurn 4 = .ok (.bipush 68, 2) := dk_16 68 (dk_at dksX6_ofTurn_0 4 rfl rfl)
theorem dX6_ofTurn_6 : decode cX6_ofTurn 6 = .ok (.iconst 3, 1) := dk_6 (dk_at dksX6_ofTurn_0 6 rfl rfl)
theorem dX6_ofTurn_7 : decode cX6_ofTurn 7 = .ok (.iload_n 1, 1) := dk_27 (dk_at dksX6_ofTurn_0 7 rfl rfl)
theorem dX6_ofTurn_8 : decode cX6_ofTurn 8 = .ok (.imul, 1) := dk_104 (dk_at dksX6_ofTurn_0 8 rfl rfl)
theorem dX6_ofTurn_9 : decode cX6_ofTurn 9 = .ok (.iadd, 1) := dk_96 (dk_at dksX6_ofTurn_0 9 rfl rfl)
theorem dX6_ofTurn_10 : decode cX6_ofTurn 10 = .ok (.iload_n 2, 1) := dk_28 (dk_at dksX6_ofTurn_0 10 rfl rfl)
theorem dX6_ofTurn_11 : decode cX6_ofTurn 11 = .ok (.iadd, 1) := dk_96 (dk_at dksX6_ofTurn_0 11 rfl rfl)
theorem dX6_ofTurn_12 : decode cX6_ofTurn 12 = .ok (.iaload, 1) := dk_46 (dk_at dksX6_ofTurn_0 12 rfl rfl)
theorem dX6_ofTurn_13 : decode cX6_ofTurn 13 = .ok (.ireturn, 1) := dk_172 (dk_at dksX6_ofTurn_0 13 rfl rfl)
abbrev cX6_entry : ByteArray := prog_23_method_39_code
def yX6_entry : MethodName := ⟨RX6, "entry", "(II)I"⟩
def dkwX6_entry_2 : List UInt8 := [160, 0, 12, 28, 8, 162, 0, 7, 2, 167, 0, 9, 42, 27, 28, 182, 0, 196, 172]
abbrev dktX6_entry_2 : List UInt8 := dkwX6_entry_2 ++ []
def dkwX6_entry_1 : List UInt8 := [167, 0, 4, 3, 181, 0, 41, 42, 180, 0, 41, 158, 0, 5, 3, 172, 42, 27, 16, 6, 182, 0, 196, 4]
abbrev dktX6_entry_1 : List UInt8 := dkwX6_entry_1 ++ dktX6_entry_2
def dkwX6_entry_0 : List UInt8 := [42, 42, 27, 182, 0, 221, 154, 0, 7, 4, 167, 0, 17, 28, 3, 8, 184, 0, 44, 154, 0, 7, 5]
abbrev dktX6_entry_0 : List UInt8 := dkwX6_entry_0 ++ dktX6_entry_1
theorem dksX6_entry_0 : cX6_entry.data.toList.drop 0 = dktX6_entry_0 := by decide +kernel
theorem dksX6_entry_1 : cX6_entry.data.toList.drop 23 = dktX6_entry_1 := dk_seg dksX6_entry_0 23 rfl rfl
theorem dksX6_entry_2 : cX6_entry.data.toList.drop 47 = dktX6_entry_2 := dk_seg dksX6_entry_1 24 rfl rfl
theorem dX6_entry_0 : decode cX6_entry 0 = .ok (.aload_n 0, 1) := dk_42 (dk_at dksX6_entry_0 0 rfl rfl)
theorem dX6_entry_1 : decode cX6_entry 1 = .ok (.aload_n 0, 1) := dk_42 (dk_at dksX6_entry_0 1 rfl rfl)
theorem dX6_entry_2 : decode cX6_entry 2 = .ok (.iload_n 1, 1) := dk_27 (dk_at dksX6_entry_0 2 rfl rfl)
theorem dX6_entry_3 : decode cX6_entry 3 = .ok (.invokevirtual 221, 3) := dk_182 0 221 (dk_at dksX6_entry_0 3 rfl rfl)
theorem dX6_entry_6 : decode cX6_entry 6 = .ok (.ifCond .ne 7, 3) := dk_154 0 7 (dk_at dksX6_entry_0 6 rfl rfl)
theorem dX6_entry_9 : decode cX6_entry 9 = .ok (.iconst 1, 1) := dk_4 (dk_at dksX6_entry_0 9 rfl rfl)
theorem dX6_entry_10 : decode cX6_entry 10 = .ok (.goto 17, 3) := dk_167 0 17 (dk_at dksX6_entry_0 10 rfl rfl)
theorem dX6_entry_13 : decode cX6_entry 13 = .ok (.iload_n 2, 1) := dk_28 (dk_at dksX6_entry_0 13 rfl rfl)
theorem dX6_entry_14 : decode cX6_entry 14 = .ok (.iconst 0, 1) := dk_3 (dk_at dksX6_entry_0 14 rfl rfl)
theorem dX6_entry_15 : decode cX6_entry 15 = .ok (.iconst 5, 1) := dk_8 (dk_at dksX6_entry_0 15 rfl rfl)
theorem dX6_entry_16 : decode cX6_entry 16 = .ok (.invokestatic 44, 3) := dk_184 0 44 (dk_at dksX6_entry_0 16 rfl rfl)
theorem dX6_entry_19 : decode cX6_entry 19 = .ok (.ifCond .ne 7, 3) := dk_154 0 7 (dk_at dksX6_entry_0 19 rfl rfl)
theorem dX6_entry_22 : decode cX6_entry 22 = .ok (.iconst 2, 1) := dk_5 (dk_at dksX6_entry_0 22 rfl rfl)
theorem dX6_entry_23 : decode cX6_entry 23 = .ok (.goto 4, 3) := dk_167 0 4 (dk_at dksX6_entry_1 0 rfl rfl)
theorem dX6_entry_26 : decode cX6_entry 26 = .ok (.iconst 0, 1) := dk_3 (dk_at dksX6_entry_1 3 rfl rfl)
theorem dX6_entry_27 : decode cX6_entry 27 = .ok (.putfield 41, 3) := dk_181 0 41 (dk_at dksX6_entry_1 4 rfl rfl)
theorem dX6_entry_30 : decode cX6_entry 30 = .ok (.aload_n 0, 1) := dk_42 (dk_at dksX6_entry_1 7 rfl rfl)
theorem dX6_entry_31 : decode cX6_entry 31 = .ok (.getfield 41, 3) := dk_180 0 41 (dk_at dksX6_entry_1 8 rfl rfl)
theorem dX6_entry_34 : decode cX6_entry 34 = .ok (.ifCond .le 5, 3) := dk_158 0 5 (dk_at dksX6_entry_1 11 rfl rfl)
theorem dX6_entry_37 : decode cX6_entry 37 = .ok (.iconst 0, 1) := dk_3 (dk_at dksX6_entry_1 14 rfl rfl)
theorem dX6_entry_38 : decode cX6_entry 38 = .ok (.ireturn, 1) := dk_172 (dk_at dksX6_entry_1 15 rfl rfl)
theorem dX6_entry_39 : decode cX6_entry 39 = .ok (.aload_n 0, 1) := dk_42 (dk_at dksX6_entry_1 16 rfl rfl)
theorem dX6_entry_40 : decode cX6_entry 40 = .ok (.iload_n 1, 1) := dk_27 (dk_at dksX6_entry_1 17 rfl rfl)
theorem dX6_entry_41 : decode cX6_entry 41 = .ok (.bipush 6, 2) := dk_16 6 (dk_at dksX6_entry_1 18 rfl rfl)
theorem dX6_entry_43 : decode cX6_entry 43 = .ok (.invokevirtual 196, 3) := dk_182 0 196 (dk_at dksX6_entry_1 20 rfl rfl)
theorem dX6_entry_46 : decode cX6_entry 46 = .ok (.iconst 1, 1) := dk_4 (dk_at dksX6_entry_1 23 rfl rfl)
theorem dX6_entry_47 : decode cX6_entry 47 = .ok (.if_icmp .ne 12, 3) := dk_160 0 12 (dk_at dksX6_entry_2 0 rfl rfl)
theorem dX6_entry_50 : decode cX6_entry 50 = .ok (.iload_n 2, 1) := dk_28 (dk_at dksX6_entry_2 3 rfl rfl)
theorem dX6_entry_51 : decode cX6_entry 51 = .ok (.iconst 5, 1) := dk_8 (dk_at dksX6_entry_2 4 rfl rfl)
theorem dX6_entry_52 : decode cX6_entry 52 = .ok (.if_icmp .ge 7, 3) := dk_162 0 7 (dk_at dksX6_entry_2 5 rfl rfl)
theorem dX6_entry_55 : decode cX6_entry 55 = .ok (.iconst (-1), 1) := dk_2 (dk_at dksX6_entry_2 8 rfl rfl)
theorem dX6_entry_56 : decode cX6_entry 56 = .ok (.goto 9, 3) := dk_167 0 9 (dk_at dksX6_entry_2 9 rfl rfl)
theorem dX6_entry_59 : decode cX6_entry 59 = .ok (.aload_n 0, 1) := dk_42 (dk_at dksX6_entry_2 12 rfl rfl)
theorem dX6_entry_60 : decode cX6_entry 60 = .ok (.iload_n 1, 1) := dk_27 (dk_at dksX6_entry_2 13 rfl rfl)
theorem dX6_entry_61 : decode cX6_entry 61 = .ok (.iload_n 2, 1) := dk_28 (dk_at dksX6_entry_2 14 rfl rfl)
theorem dX6_entry_62 : decode cX6_entry 62 = .ok (.invokevirtual 196, 3) := dk_182 0 196 (dk_at dksX6_entry_2 15 rfl rfl)
theorem dX6_entry_65 : decode cX6_entry 65 = .ok (.ireturn, 1) := dk_172 (dk_at dksX6_entry_2 18 rfl rfl)
abbrev cX6_isEntry : ByteArray := prog_23_method_38_code
def yX6_isEntry : MethodName := ⟨RX6, "isEntry", "(I)Z"⟩
def dkwX6_isEntry_0 : List UInt8 := [27, 3, 42, 180, 0, 7, 7, 46, 4, 100, 184, 0, 44, 172]
abbrev dktX6_isEntry_0 : List UInt8 := dkwX6_isEntry_0 ++ []
theorem dksX6_isEntry_0 : cX6_isEntry.data.toList.drop 0 = dktX6_isEntry_0 := by decide +kernel
theorem dX6_isEntry_0 : decode cX6_isEntry 0 = .ok (.iload_n 1, 1) := dk_27 (dk_at dksX6_isEntry_0 0 rfl rfl)
theorem dX6_isEntry_1 : decode cX6_isEntry 1 = .ok (.iconst 0, 1) := dk_3 (dk_at dksX6_isEntry_0 1 rfl rfl)
theorem dX6_isEntry_2 : decode cX6_isEntry 2 = .ok (.aload_n 0, 1) := dk_42 (dk_at dksX6_isEntry_0 2 rfl rfl)
theorem dX6_isEntry_3 : decode cX6_isEntry 3 = .ok (.getfield 7, 3) := dk_180 0 7 (dk_at dksX6_isEntry_0 3 rfl rfl)
theorem dX6_isEntry_6 : decode cX6_isEntry 6 = .ok (.iconst 4, 1) := dk_7 (dk_at dksX6_isEntry_0 6 rfl rfl)
theorem dX6_isEntry_7 : decode cX6_isEntry 7 = .ok (.iaload, 1) := dk_46 (dk_at dksX6_isEntry_0 7 rfl rfl)
theorem dX6_isEntry_8 : decode cX6_isEntry 8 = .ok (.iconst 1, 1) := dk_4 (dk_at dksX6_isEntry_0 8 rfl rfl)
theorem dX6_isEntry_9 : decode cX6_isEntry 9 = .ok (.isub, 1) := dk_100 (dk_at dksX6_isEntry_0 9 rfl rfl)
theorem dX6_isEntry_10 : decode cX6_isEntry 10 = .ok (.invokestatic 44, 3) := dk_184 0 44 (dk_at dksX6_isEntry_0 10 rfl rfl)
theorem dX6_isEntry_13 : decode cX6_isEntry 13 = .ok (.ireturn, 1) := dk_172 (dk_at dksX6_isEntry_0 13 rfl rfl)
abbrev cX6_counts : ByteArray := prog_23_method_43_code
def yX6_counts : MethodName := ⟨RX6, "counts", "(IIIZ)I"⟩
def dkwX6_counts_1 : List UInt8 := [21, 4, 182, 0, 230, 172]
abbrev dktX6_counts_1 : List UInt8 := dkwX6_counts_1 ++ []
def dkwX6_counts_0 : List UInt8 := [42, 42, 27, 28, 29, 182, 0, 227, 181, 0, 41, 42, 180, 0, 41, 158, 0, 5, 3, 172, 42, 27, 28, 29]
abbrev dktX6_counts_0 : List UInt8 := dkwX6_counts_0 ++ dktX6_counts_1
theorem dksX6_counts_0 : cX6_counts.data.toList.drop 0 = dktX6_counts_0 := by decide +kernel
theorem dksX6_counts_1 : cX6_counts.data.toList.drop 24 = dktX6_counts_1 := dk_seg dksX6_counts_0 24 rfl rfl
theorem dX6_counts_0 : decode cX6_counts 0 = .ok (.aload_n 0, 1) := dk_42 (dk_at dksX6_counts_0 0 rfl rfl)
theorem dX6_counts_1 : decode cX6_counts 1 = .ok (.aload_n 0, 1) := dk_42 (dk_at dksX6_counts_0 1 rfl rfl)
theorem dX6_counts_2 : decode cX6_counts 2 = .ok (.iload_n 1, 1) := dk_27 (dk_at dksX6_counts_0 2 rfl rfl)
theorem dX6_counts_3 : decode cX6_counts 3 = .ok (.iload_n 2, 1) := dk_28 (dk_at dksX6_counts_0 3 rfl rfl)
theorem dX6_counts_4 : decode cX6_counts 4 = .ok (.iload_n 3, 1) := dk_29 (dk_at dksX6_counts_0 4 rfl rfl)
theorem dX6_counts_5 : decode cX6_counts 5 = .ok (.invokevirtual 227, 3) := dk_182 0 227 (dk_at dksX6_counts_0 5 rfl rfl)
theorem dX6_counts_8 : decode cX6_counts 8 = .ok (.putfield 41, 3) := dk_181 0 41 (dk_at dksX6_counts_0 8 rfl rfl)
theorem dX6_counts_11 : decode cX6_counts 11 = .ok (.aload_n 0, 1) := dk_42 (dk_at dksX6_counts_0 11 rfl rfl)
theorem dX6_counts_12 : decode cX6_counts 12 = .ok (.getfield 41, 3) := dk_180 0 41 (dk_at dksX6_counts_0 12 rfl rfl)
theorem dX6_counts_15 : decode cX6_counts 15 = .ok (.ifCond .le 5, 3) := dk_158 0 5 (dk_at dksX6_counts_0 15 rfl rfl)
theorem dX6_counts_18 : decode cX6_counts 18 = .ok (.iconst 0, 1) := dk_3 (dk_at dksX6_counts_0 18 rfl rfl)
theorem dX6_counts_19 : decode cX6_counts 19 = .ok (.ireturn, 1) := dk_172 (dk_at dksX6_counts_0 19 rfl rfl)
theorem dX6_counts_20 : decode cX6_counts 20 = .ok (.aload_n 0, 1) := dk_42 (dk_at dksX6_counts_0 20 rfl rfl)
theorem dX6_counts_21 : decode cX6_counts 21 = .ok (.iload_n 1, 1) := dk_27 (dk_at dksX6_counts_0 21 rfl rfl)
theorem dX6_counts_22 : decode cX6_counts 22 = .ok (.iload_n 2, 1) := dk_28 (dk_at dksX6_counts_0 22 rfl rfl)
theorem dX6_counts_23 : decode cX6_counts 23 = .ok (.iload_n 3, 1) := dk_29 (dk_at dksX6_counts_0 23 rfl rfl)
theorem dX6_counts_24 : decode cX6_counts 24 = .ok (.iload 4, 2) := dk_21 4 (dk_at dksX6_counts_1 0 rfl rfl)
theorem dX6_counts_26 : decode cX6_counts 26 = .ok (.invokevirtual 230, 3) := dk_182 0 230 (dk_at dksX6_counts_1 2 rfl rfl)
theorem dX6_counts_29 : decode cX6_counts 29 = .ok (.ireturn, 1) := dk_172 (dk_at dksX6_counts_1 5 rfl rfl)
abbrev cX6_refuses : ByteArray := prog_23_method_42_code
def yX6_refuses : MethodName := ⟨RX6, "refuses", "(III)I"⟩
def dkwX6_refuses_1 : List UInt8 := [180, 0, 7, 6, 46, 184, 0, 44, 154, 0, 7, 5, 167, 0, 4, 3, 172]
abbrev dktX6_refuses_1 : List UInt8 := dkwX6_refuses_1 ++ []
def dkwX6_refuses_0 : List UInt8 := [42, 27, 182, 0, 209, 153, 0, 11, 42, 28, 182, 0, 200, 154, 0, 7, 4, 167, 0, 22, 29, 4, 42]
abbrev dktX6_refuses_0 : List UInt8 := dkwX6_refuses_0 ++ dktX6_refuses_1
theorem dksX6_refuses_0 : cX6_refuses.data.toList.drop 0 = dktX6_refuses_0 := by decide +kernel
theorem dksX6_refuses_1 : cX6_refuses.data.toList.drop 23 = dktX6_refuses_1 := dk_seg dksX6_refuses_0 23 rfl rfl
theorem dX6_refuses_0 : decode cX6_refuses 0 = .ok (.aload_n 0, 1) := dk_42 (dk_at dksX6_refuses_0 0 rfl rfl)
theorem dX6_refuses_1 : decode cX6_refuses 1 = .ok (.iload_n 1, 1) := dk_27 (dk_at dksX6_refuses_0 1 rfl rfl)
theorem dX6_refuses_2 : decode cX6_refuses 2 = .ok (.invokevirtual 209, 3) := dk_182 0 209 (dk_at dksX6_refuses_0 2 rfl rfl)
theorem dX6_refuses_5 : decode cX6_refuses 5 = .ok (.ifCond .eq 11, 3) := dk_153 0 11 (dk_at dksX6_refuses_0 5 rfl rfl)
theorem dX6_refuses_8 : decode cX6_refuses 8 = .ok (.aload_n 0, 1) := dk_42 (dk_at dksX6_refuses_0 8 rfl rfl)
theorem dX6_refuses_9 : decode cX6_refuses 9 = .ok (.iload_n 2, 1) := dk_28 (dk_at dksX6_refuses_0 9 rfl rfl)
theorem dX6_refuses_10 : decode cX6_refuses 10 = .ok (.invokevirtual 200, 3) := dk_182 0 200 (dk_at dksX6_refuses_0 10 rfl rfl)
theorem dX6_refuses_13 : decode cX6_refuses 13 = .ok (.ifCond .ne 7, 3) := dk_154 0 7 (dk_at dksX6_refuses_0 13 rfl rfl)
theorem dX6_refuses_16 : decode cX6_refuses 16 = .ok (.iconst 1, 1) := dk_4 (dk_at dksX6_refuses_0 16 rfl rfl)
theorem dX6_refuses_17 : decode cX6_refuses 17 = .ok (.goto 22, 3) := dk_167 0 22 (dk_at dksX6_refuses_0 17 rfl rfl)
theorem dX6_refuses_20 : decode cX6_refuses 20 = .ok (.iload_n 3, 1) := dk_29 (dk_at dksX6_refuses_0 20 rfl rfl)
theorem dX6_refuses_21 : decode cX6_refuses 21 = .ok (.iconst 1, 1) := dk_4 (dk_at dksX6_refuses_0 21 rfl rfl)
theorem dX6_refuses_22 : decode cX6_refuses 22 = .ok (.aload_n 0, 1) := dk_42 (dk_at dksX6_refuses_0 22 rfl rfl)
theorem dX6_refuses_23 : decode cX6_refuses 23 = .ok (.getfield 7, 3) := dk_180 0 7 (dk_at dksX6_refuses_1 0 rfl rfl)
theorem dX6_refuses_26 : decode cX6_refuses 26 = .ok (.iconst 3, 1) := dk_6 (dk_at dksX6_refuses_1 3 rfl rfl)
theorem dX6_refuses_27 : decode cX6_refuses 27 = .ok (.iaload, 1) := dk_46 (dk_at dksX6_refuses_1 4 rfl rfl)
theorem dX6_refuses_28 : decode cX6_refuses 28 = .ok (.invokestatic 44, 3) := dk_184 0 44 (dk_at dksX6_refuses_1 5 rfl rfl)
theorem dX6_refuses_31 : decode cX6_refuses 31 = .ok (.ifCond .ne 7, 3) := dk_154 0 7 (dk_at dksX6_refuses_1 8 rfl rfl)
theorem dX6_refuses_34 : decode cX6_refuses 34 = .ok (.iconst 2, 1) := dk_5 (dk_at dksX6_refuses_1 11 rfl rfl)
theorem dX6_refuses_35 : decode cX6_refuses 35 = .ok (.goto 4, 3) := dk_167 0 4 (dk_at dksX6_refuses_1 12 rfl rfl)
theorem dX6_refuses_38 : decode cX6_refuses 38 = .ok (.iconst 0, 1) := dk_3 (dk_at dksX6_refuses_1 15 rfl rfl)
theorem dX6_refuses_39 : decode cX6_refuses 39 = .ok (.ireturn, 1) := dk_172 (dk_at dksX6_refuses_1 16 rfl rfl)
abbrev cX6_countsOf : ByteArray := prog_23_method_41_code
def yX6_countsOf : MethodName := ⟨RX6, "countsOf", "(IIIZ)I"⟩
def dkwX6_countsOf_8 : List UInt8 := [54, 6, 21, 5, 21, 6, 104, 16, 10, 108, 172]
abbrev dktX6_countsOf_8 : List UInt8 := dkwX6_countsOf_8 ++ []
def dkwX6_countsOf_7 : List UInt8 := [87, 42, 21, 7, 181, 0, 22, 42, 180, 0, 193, 2, 160, 0, 7, 3, 167, 0, 7, 42, 180, 0, 193]
abbrev dktX6_countsOf_7 : List UInt8 := dkwX6_countsOf_7 ++ dktX6_countsOf_8
def dkwX6_countsOf_6 : List UInt8 := [46, 181, 0, 57, 42, 3, 181, 0, 54, 42, 3, 181, 0, 122, 42, 2, 181, 0, 193, 42, 4, 182, 0, 138]
abbrev dktX6_countsOf_6 : List UInt8 := dkwX6_countsOf_6 ++ dktX6_countsOf_7
def dkwX6_countsOf_5 : List UInt8 := [180, 0, 22, 54, 7, 42, 2, 181, 0, 22, 42, 17, 2, 30, 181, 0, 51, 42, 42, 180, 0, 7, 16, 11]
abbrev dktX6_countsOf_5 : List UInt8 := dkwX6_countsOf_5 ++ dktX6_countsOf_6
def dkwX6_countsOf_4 : List UInt8 := [181, 0, 158, 42, 42, 27, 5, 182, 0, 203, 28, 160, 0, 7, 4, 167, 0, 4, 3, 181, 0, 164, 42]
abbrev dktX6_countsOf_4 : List UInt8 := dkwX6_countsOf_4 ++ dktX6_countsOf_5
def dkwX6_countsOf_3 : List UInt8 := [180, 0, 7, 16, 8, 46, 16, 7, 112, 79, 42, 42, 27, 3, 182, 0, 203, 181, 0, 153, 42, 21, 4]
abbrev dktX6_countsOf_3 : List UInt8 := dkwX6_countsOf_3 ++ dktX6_countsOf_4
def dkwX6_countsOf_2 : List UInt8 := [4, 182, 0, 212, 167, 0, 4, 3, 79, 42, 180, 0, 26, 5, 21, 5, 79, 42, 180, 0, 26, 6, 42]
abbrev dktX6_countsOf_2 : List UInt8 := dkwX6_countsOf_2 ++ dktX6_countsOf_3
def dkwX6_countsOf_1 : List UInt8 := [180, 0, 26, 3, 42, 27, 4, 182, 0, 203, 79, 42, 180, 0, 26, 4, 29, 158, 0, 14, 42, 29, 4, 100]
abbrev dktX6_countsOf_1 : List UInt8 := dkwX6_countsOf_1 ++ dktX6_countsOf_2
def dkwX6_countsOf_0 : List UInt8 := [42, 29, 182, 0, 224, 54, 5, 16, 10, 54, 6, 42, 180, 0, 7, 16, 10, 46, 2, 159, 0, 170, 42]
abbrev dktX6_countsOf_0 : List UInt8 := dkwX6_countsOf_0 ++ dktX6_countsOf_1
theorem dksX6_countsOf_0 : cX6_countsOf.data.toList.drop 0 = dktX6_countsOf_0 := by decide +kernel
theorem dksX6_countsOf_1 : cX6_countsOf.data.toList.drop 23 = dktX6_countsOf_1 := dk_seg dksX6_countsOf_0 23 rfl rfl
theorem dksX6_countsOf_2 : cX6_countsOf.data.toList.drop 47 = dktX6_countsOf_2 := dk_seg dksX6_countsOf_1 24 rfl rfl
theorem dksX6_countsOf_3 : cX6_countsOf.data.toList.drop 70 = dktX6_countsOf_3 := dk_seg dksX6_countsOf_2 23 rfl rfl
theorem dksX6_countsOf_4 : cX6_countsOf.data.toList.drop 93 = dktX6_countsOf_4 := dk_seg dksX6_countsOf_3 23 rfl rfl
theorem dksX6_countsOf_5 : cX6_countsOf.data.toList.drop 116 = dktX6_countsOf_5 := dk_seg dksX6_countsOf_4 23 rfl rfl
theorem dksX6_countsOf_6 : cX6_countsOf.data.toList.drop 140 = dktX6_countsOf_6 := dk_seg dksX6_countsOf_5 24 rfl rfl
theorem dksX6_countsOf_7 : cX6_countsOf.data.toList.drop 164 = dktX6_countsOf_7 := dk_seg dksX6_countsOf_6 24 rfl rfl
theorem dksX6_countsOf_8 : cX6_countsOf.data.toList.drop 187 = dktX6_countsOf_8 := dk_seg dksX6_countsOf_7 23 rfl rfl
theorem dX6_countsOf_0 : decode cX6_countsOf 0 = .ok (.aload_n 0, 1) := dk_42 (dk_at dksX6_countsOf_0 0 rfl rfl)
theorem dX6_countsOf_1 : decode cX6_countsOf 1 = .ok (.iload_n 3, 1) := dk_29 (dk_at dksX6_countsOf_0 1 rfl rfl)
theorem dX6_countsOf_2 : decode cX6_countsOf 2 = .ok (.invokevirtual 224, 3) := dk_182 0 224 (dk_at dksX6_countsOf_0 2 rfl rfl)
theorem dX6_countsOf_5 : decode cX6_countsOf 5 = .ok (.istore 5, 2) := dk_54 5 (dk_at dksX6_countsOf_0 5 rfl rfl)
theorem dX6_countsOf_7 : decode cX6_countsOf 7 = .ok (.bipush 10, 2) := dk_16 10 (dk_at dksX6_countsOf_0 7 rfl rfl)
theorem dX6_countsOf_9 : decode cX6_countsOf 9 = .ok (.istore 6, 2) := dk_54 6 (dk_at dksX6_countsOf_0 9 rfl rfl)
theorem dX6_countsOf_11 : decode cX6_countsOf 11 = .ok (.aload_n 0, 1) := dk_42 (dk_at dksX6_countsOf_0 11 rfl rfl)
theorem dX6_countsOf_12 : decode cX6_countsOf 12 = .ok (.getfield 7, 3) := dk_180 0 7 (dk_at dksX6_countsOf_0 12 rfl rfl)
theorem dX6_countsOf_15 : decode cX6_countsOf 15 = .ok (.bipush 10, 2) := dk_16 10 (dk_at dksX6_countsOf_0 15 rfl rfl)
theorem dX6_countsOf_17 : decode cX6_countsOf 17 = .ok (.iaload, 1) := dk_46 (dk_at dksX6_countsOf_0 17 rfl rfl)
theorem dX6_countsOf_18 : decode cX6_countsOf 18 = .ok (.iconst (-1), 1) := dk_2 (dk_at dksX6_countsOf_0 18 rfl rfl)
theorem dX6_countsOf_19 : decode cX6_countsOf 19 = .ok (.if_icmp .eq 170, 3) := dk_159 0 170 (dk_at dksX6_countsOf_0 19 rfl rfl)
theorem dX6_countsOf_22 : decode cX6_countsOf 22 = .ok (.aload_n 0, 1) := dk_42 (dk_at dksX6_countsOf_0 22 rfl rfl)
theorem dX6_countsOf_23 : decode cX6_countsOf 23 = .ok (.getfield 26, 3) := dk_180 0 26 (dk_at dksX6_countsOf_1 0 rfl rfl)
theorem dX6_countsOf_26 : decode cX6_countsOf 26 = .ok (.iconst 0, 1) := dk_3 (dk_at dksX6_countsOf_1 3 rfl rfl)
theorem dX6_countsOf_27 : decode cX6_countsOf 27 = .ok (.aload_n 0, 1) := dk_42 (dk_at dksX6_countsOf_1 4 rfl rfl)
theorem dX6_countsOf_28 : decode cX6_countsOf 28 = .ok (.iload_n 1, 1) := dk_27 (dk_at dksX6_countsOf_1 5 rfl rfl)
theorem dX6_countsOf_29 : decode cX6_countsOf 29 = .ok (.iconst 1, 1) := dk_4 (dk_at dksX6_countsOf_1 6 rfl rfl)
theorem dX6_countsOf_30 : decode cX6_countsOf 30 = .ok (.invokevirtual 203, 3) := dk_182 0 203 (dk_at dksX6_countsOf_1 7 rfl rfl)
theorem dX6_countsOf_33 : decode cX6_countsOf 33 = .ok (.iastore, 1) := dk_79 (dk_at dksX6_countsOf_1 10 rfl rfl)
theorem dX6_countsOf_34 : decode cX6_countsOf 34 = .ok (.aload_n 0, 1) := dk_42 (dk_at dksX6_countsOf_1 11 rfl rfl)
theorem dX6_countsOf_35 : decode cX6_countsOf 35 = .ok (.getfield 26, 3) := dk_180 0 26 (dk_at dksX6_countsOf_1 12 rfl rfl)
theorem dX6_countsOf_38 : decode cX6_countsOf 38 = .ok (.iconst 1, 1) := dk_4 (dk_at dksX6_countsOf_1 15 rfl rfl)
theorem dX6_countsOf_39 : decode cX6_countsOf 39 = .ok (.iload_n 3, 1) := dk_29 (dk_at dksX6_countsOf_1 16 rfl rfl)
theorem dX6_countsOf_40 : decode cX6_countsOf 40 = .ok (.ifCond .le 14, 3) := dk_158 0 14 (dk_at dksX6_countsOf_1 17 rfl rfl)
theorem dX6_countsOf_43 : decode cX6_countsOf 43 = .ok (.aload_n 0, 1) := dk_42 (dk_at dksX6_countsOf_1 20 rfl rfl)
theorem dX6_countsOf_44 : decode cX6_countsOf 44 = .ok (.iload_n 3, 1) := dk_29 (dk_at dksX6_countsOf_1 21 rfl rfl)
theorem dX6_countsOf_45 : decode cX6_countsOf 45 = .ok (.iconst 1, 1) := dk_4 (dk_at dksX6_countsOf_1 22 rfl rfl)
theorem dX6_countsOf_46 : decode cX6_countsOf 46 = .ok (.isub, 1) := dk_100 (dk_at dksX6_countsOf_1 23 rfl rfl)
theorem dX6_countsOf_47 : decode cX6_countsOf 47 = .ok (.iconst 1, 1) := dk_4 (dk_at dksX6_countsOf_2 0 rfl rfl)
theorem dX6_countsOf_48 : decode cX6_countsOf 48 = .ok (.invokevirtual 212, 3) := dk_182 0 212 (dk_at dksX6_countsOf_2 1 rfl rfl)
theorem dX6_countsOf_51 : decode cX6_countsOf 51 = .ok (.goto 4, 3) := dk_167 0 4 (dk_at dksX6_countsOf_2 4 rfl rfl)
theorem dX6_countsOf_54 : decode cX6_countsOf 54 = .ok (.iconst 0, 1) := dk_3 (dk_at dksX6_countsOf_2 7 rfl rfl)
theorem dX6_countsOf_55 : decode cX6_countsOf 55 = .ok (.iastore, 1) := dk_79 (dk_at dksX6_countsOf_2 8 rfl rfl)
theorem dX6_countsOf_56 : decode cX6_countsOf 56 = .ok (.aload_n 0, 1) := dk_42 (dk_at dksX6_countsOf_2 9 rfl rfl)
theorem dX6_countsOf_57 : decode cX6_countsOf 57 = .ok (.getfield 26, 3) := dk_180 0 26 (dk_at dksX6_countsOf_2 10 rfl rfl)
theorem dX6_countsOf_60 : decode cX6_countsOf 60 = .ok (.iconst 2, 1) := dk_5 (dk_at dksX6_countsOf_2 13 rfl rfl)
theorem dX6_countsOf_61 : decode cX6_countsOf 61 = .ok (.iload 5, 2) := dk_21 5 (dk_at dksX6_countsOf_2 14 rfl rfl)
theorem dX6_countsOf_63 : decode cX6_countsOf 63 = .ok (.iastore, 1) := dk_79 (dk_at dksX6_countsOf_2 16 rfl rfl)
theorem dX6_countsOf_64 : decode cX6_countsOf 64 = .ok (.aload_n 0, 1) := dk_42 (dk_at dksX6_countsOf_2 17 rfl rfl)
theorem dX6_countsOf_65 : decode cX6_countsOf 65 = .ok (.getfield 26, 3) := dk_180 0 26 (dk_at dksX6_countsOf_2 18 rfl rfl)
theorem dX6_countsOf_68 : decode cX6_countsOf 68 = .ok (.iconst 3, 1) := dk_6 (dk_at dksX6_countsOf_2 21 rfl rfl)
theorem dX6_countsOf_69 : decode cX6_countsOf 69 = .ok (.aload_n 0, 1) := dk_42 (dk_at dksX6_countsOf_2 22 rfl rfl)
theorem dX6_countsOf_70 : decode cX6_countsOf 70 = .ok (.getfield 7, 3) := dk_180 0 7 (dk_at dksX6_countsOf_3 0 rfl rfl)
theorem dX6_countsOf_73 : decode cX6_countsOf 73 = .ok (.bipush 8, 2) := dk_16 8 (dk_at dksX6_countsOf_3 3 rfl rfl)
theorem dX6_countsOf_75 : decode cX6_countsOf 75 = .ok (.iaload, 1) := dk_46 (dk_at dksX6_countsOf_3 5 rfl rfl)
theorem dX6_countsOf_76 : decode cX6_countsOf 76 = .ok (.bipush 7, 2) := dk_16 7 (dk_at dksX6_countsOf_3 6 rfl rfl)
theorem dX6_countsOf_78 : decode cX6_countsOf 78 = .ok (.irem, 1) := dk_112 (dk_at dksX6_countsOf_3 8 rfl rfl)
theorem dX6_countsOf_79 : decode cX6_countsOf 79 = .ok (.iastore, 1) := dk_79 (dk_at dksX6_countsOf_3 9 rfl rfl)
theorem dX6_countsOf_80 : decode cX6_countsOf 80 = .ok (.aload_n 0, 1) := dk_42 (dk_at dksX6_countsOf_3 10 rfl rfl)
theorem dX6_countsOf_81 : decode cX6_countsOf 81 = .ok (.aload_n 0, 1) := dk_42 (dk_at dksX6_countsOf_3 11 rfl rfl)
theorem dX6_countsOf_82 : decode cX6_countsOf 82 = .ok (.iload_n 1, 1) := dk_27 (dk_at dksX6_countsOf_3 12 rfl rfl)
theorem dX6_countsOf_83 : decode cX6_countsOf 83 = .ok (.iconst 0, 1) := dk_3 (dk_at dksX6_countsOf_3 13 rfl rfl)
theorem dX6_countsOf_84 : decode cX6_countsOf 84 = .ok (.invokevirtual 203, 3) := dk_182 0 203 (dk_at dksX6_countsOf_3 14 rfl rfl)
theorem dX6_countsOf_87 : decode cX6_countsOf 87 = .ok (.putfield 153, 3) := dk_181 0 153 (dk_at dksX6_countsOf_3 17 rfl rfl)
theorem dX6_countsOf_90 : decode cX6_countsOf 90 = .ok (.aload_n 0, 1) := dk_42 (dk_at dksX6_countsOf_3 20 rfl rfl)
theorem dX6_countsOf_91 : decode cX6_countsOf 91 = .ok (.iload 4, 2) := dk_21 4 (dk_at dksX6_countsOf_3 21 rfl rfl)
theorem dX6_countsOf_93 : decode cX6_countsOf 93 = .ok (.putfield 158, 3) := dk_181 0 158 (dk_at dksX6_countsOf_4 0 rfl rfl)
theorem dX6_countsOf_96 : decode cX6_countsOf 96 = .ok (.aload_n 0, 1) := dk_42 (dk_at dksX6_countsOf_4 3 rfl rfl)
theorem dX6_countsOf_97 : decode cX6_countsOf 97 = .ok (.aload_n 0, 1) := dk_42 (dk_at dksX6_countsOf_4 4 rfl rfl)
theorem dX6_countsOf_98 : decode cX6_countsOf 98 = .ok (.iload_n 1, 1) := dk_27 (dk_at dksX6_countsOf_4 5 rfl rfl)
theorem dX6_countsOf_99 : decode cX6_countsOf 99 = .ok (.iconst 2, 1) := dk_5 (dk_at dksX6_countsOf_4 6 rfl rfl)
theorem dX6_countsOf_100 : decode cX6_countsOf 100 = .ok (.invokevirtual 203, 3) := dk_182 0 203 (dk_at dksX6_countsOf_4 7 rfl rfl)
theorem dX6_countsOf_103 : decode cX6_countsOf 103 = .ok (.iload_n 2, 1) := dk_28 (dk_at dksX6_countsOf_4 10 rfl rfl)
theorem dX6_countsOf_104 : decode cX6_countsOf 104 = .ok (.if_icmp .ne 7, 3) := dk_160 0 7 (dk_at dksX6_countsOf_4 11 rfl rfl)
theorem dX6_countsOf_107 : decode cX6_countsOf 107 = .ok (.iconst 1, 1) := dk_4 (dk_at dksX6_countsOf_4 14 rfl rfl)
theorem dX6_countsOf_108 : decode cX6_countsOf 108 = .ok (.goto 4, 3) := dk_167 0 4 (dk_at dksX6_countsOf_4 15 rfl rfl)
theorem dX6_countsOf_111 : decode cX6_countsOf 111 = .ok (.iconst 0, 1) := dk_3 (dk_at dksX6_countsOf_4 18 rfl rfl)
theorem dX6_countsOf_112 : decode cX6_countsOf 112 = .ok (.putfield 164, 3) := dk_181 0 164 (dk_at dksX6_countsOf_4 19 rfl rfl)
theorem dX6_countsOf_115 : decode cX6_countsOf 115 = .ok (.aload_n 0, 1) := dk_42 (dk_at dksX6_countsOf_4 22 rfl rfl)
theorem dX6_countsOf_116 : decode cX6_countsOf 116 = .ok (.getfield 22, 3) := dk_180 0 22 (dk_at dksX6_countsOf_5 0 rfl rfl)
theorem dX6_countsOf_119 : decode cX6_countsOf 119 = .ok (.istore 7, 2) := dk_54 7 (dk_at dksX6_countsOf_5 3 rfl rfl)
theorem dX6_countsOf_121 : decode cX6_countsOf 121 = .ok (.aload_n 0, 1) := dk_42 (dk_at dksX6_countsOf_5 5 rfl rfl)
theorem dX6_countsOf_122 : decode cX6_countsOf 122 = .ok (.iconst (-1), 1) := dk_2 (dk_at dksX6_countsOf_5 6 rfl rfl)
theorem dX6_countsOf_123 : decode cX6_countsOf 123 = .ok (.putfield 22, 3) := dk_181 0 22 (dk_at dksX6_countsOf_5 7 rfl rfl)
theorem dX6_countsOf_126 : decode cX6_countsOf 126 = .ok (.aload_n 0, 1) := dk_42 (dk_at dksX6_countsOf_5 10 rfl rfl)
theorem dX6_countsOf_127 : decode cX6_countsOf 127 = .ok (.sipush 542, 3) := dk_17 2 30 (dk_at dksX6_countsOf_5 11 rfl rfl)
theorem dX6_countsOf_130 : decode cX6_countsOf 130 = .ok (.putfield 51, 3) := dk_181 0 51 (dk_at dksX6_countsOf_5 14 rfl rfl)
theorem dX6_countsOf_133 : decode cX6_countsOf 133 = .ok (.aload_n 0, 1) := dk_42 (dk_at dksX6_countsOf_5 17 rfl rfl)
theorem dX6_countsOf_134 : decode cX6_countsOf 134 = .ok (.aload_n 0, 1) := dk_42 (dk_at dksX6_countsOf_5 18 rfl rfl)
theorem dX6_countsOf_135 : decode cX6_countsOf 135 = .ok (.getfield 7, 3) := dk_180 0 7 (dk_at dksX6_countsOf_5 19 rfl rfl)
theorem dX6_countsOf_138 : decode cX6_countsOf 138 = .ok (.bipush 11, 2) := dk_16 11 (dk_at dksX6_countsOf_5 22 rfl rfl)
theorem dX6_countsOf_140 : decode cX6_countsOf 140 = .ok (.iaload, 1) := dk_46 (dk_at dksX6_countsOf_6 0 rfl rfl)
theorem dX6_countsOf_141 : decode cX6_countsOf 141 = .ok (.putfield 57, 3) := dk_181 0 57 (dk_at dksX6_countsOf_6 1 rfl rfl)
theorem dX6_countsOf_144 : decode cX6_countsOf 144 = .ok (.aload_n 0, 1) := dk_42 (dk_at dksX6_countsOf_6 4 rfl rfl)
theorem dX6_countsOf_145 : decode cX6_countsOf 145 = .ok (.iconst 0, 1) := dk_3 (dk_at dksX6_countsOf_6 5 rfl rfl)
theorem dX6_countsOf_146 : decode cX6_countsOf 146 = .ok (.putfield 54, 3) := dk_181 0 54 (dk_at dksX6_countsOf_6 6 rfl rfl)
theorem dX6_countsOf_149 : decode cX6_countsOf 149 = .ok (.aload_n 0, 1) := dk_42 (dk_at dksX6_countsOf_6 9 rfl rfl)
theorem dX6_countsOf_150 : decode cX6_countsOf 150 = .ok (.iconst 0, 1) := dk_3 (dk_at dksX6_countsOf_6 10 rfl rfl)
theorem dX6_countsOf_151 : decode cX6_countsOf 151 = .ok (.putfield 122, 3) := dk_181 0 122 (dk_at dksX6_countsOf_6 11 rfl rfl)
theorem dX6_countsOf_154 : decode cX6_countsOf 154 = .ok (.aload_n 0, 1) := dk_42 (dk_at dksX6_countsOf_6 14 rfl rfl)
theorem dX6_countsOf_155 : decode cX6_countsOf 155 = .ok (.iconst (-1), 1) := dk_2 (dk_at dksX6_countsOf_6 15 rfl rfl)
theorem dX6_countsOf_156 : decode cX6_countsOf 156 = .ok (.putfield 193, 3) := dk_181 0 193 (dk_at dksX6_countsOf_6 16 rfl rfl)
theorem dX6_countsOf_159 : decode cX6_countsOf 159 = .ok (.aload_n 0, 1) := dk_42 (dk_at dksX6_countsOf_6 19 rfl rfl)
theorem dX6_countsOf_160 : decode cX6_countsOf 160 = .ok (.iconst 1, 1) := dk_4 (dk_at dksX6_countsOf_6 20 rfl rfl)
theorem dX6_countsOf_161 : decode cX6_countsOf 161 = .ok (.invokevirtual 138, 3) := dk_182 0 138 (dk_at dksX6_countsOf_6 21 rfl rfl)
theorem dX6_countsOf_164 : decode cX6_countsOf 164 = .ok (.pop, 1) := dk_87 (dk_at dksX6_countsOf_7 0 rfl rfl)
theorem dX6_countsOf_165 : decode cX6_countsOf 165 = .ok (.aload_n 0, 1) := dk_42 (dk_at dksX6_countsOf_7 1 rfl rfl)
theorem dX6_countsOf_166 : decode cX6_countsOf 166 = .ok (.iload 7, 2) := dk_21 7 (dk_at dksX6_countsOf_7 2 rfl rfl)
theorem dX6_countsOf_168 : decode cX6_countsOf 168 = .ok (.putfield 22, 3) := dk_181 0 22 (dk_at dksX6_countsOf_7 4 rfl rfl)
theorem dX6_countsOf_171 : decode cX6_countsOf 171 = .ok (.aload_n 0, 1) := dk_42 (dk_at dksX6_countsOf_7 7 rfl rfl)
theorem dX6_countsOf_172 : decode cX6_countsOf 172 = .ok (.getfield 193, 3) := dk_180 0 193 (dk_at dksX6_countsOf_7 8 rfl rfl)
theorem dX6_countsOf_175 : decode cX6_countsOf 175 = .ok (.iconst (-1), 1) := dk_2 (dk_at dksX6_countsOf_7 11 rfl rfl)
theorem dX6_countsOf_176 : decode cX6_countsOf 176 = .ok (.if_icmp .ne 7, 3) := dk_160 0 7 (dk_at dksX6_countsOf_7 12 rfl rfl)
theorem dX6_countsOf_179 : decode cX6_countsOf 179 = .ok (.iconst 0, 1) := dk_3 (dk_at dksX6_countsOf_7 15 rfl rfl)
theorem dX6_countsOf_180 : decode cX6_countsOf 180 = .ok (.goto 7, 3) := dk_167 0 7 (dk_at dksX6_countsOf_7 16 rfl rfl)
theorem dX6_countsOf_183 : decode cX6_countsOf 183 = .ok (.aload_n 0, 1) := dk_42 (dk_at dksX6_countsOf_7 19 rfl rfl)
theorem dX6_countsOf_184 : decode cX6_countsOf 184 = .ok (.getfield 193, 3) := dk_180 0 193 (dk_at dksX6_countsOf_7 20 rfl rfl)
theorem dX6_countsOf_187 : decode cX6_countsOf 187 = .ok (.istore 6, 2) := dk_54 6 (dk_at dksX6_countsOf_8 0 rfl rfl)
theorem dX6_countsOf_189 : decode cX6_countsOf 189 = .ok (.iload 5, 2) := dk_21 5 (dk_at dksX6_countsOf_8 2 rfl rfl)
theorem dX6_countsOf_191 : decode cX6_countsOf 191 = .ok (.iload 6, 2) := dk_21 6 (dk_at dksX6_countsOf_8 4 rfl rfl)
theorem dX6_countsOf_193 : decode cX6_countsOf 193 = .ok (.imul, 1) := dk_104 (dk_at dksX6_countsOf_8 6 rfl rfl)
theorem dX6_countsOf_194 : decode cX6_countsOf 194 = .ok (.bipush 10, 2) := dk_16 10 (dk_at dksX6_countsOf_8 7 rfl rfl)
theorem dX6_countsOf_196 : decode cX6_countsOf 196 = .ok (.idiv, 1) := dk_108 (dk_at dksX6_countsOf_8 9 rfl rfl)
theorem dX6_countsOf_197 : decode cX6_countsOf 197 = .ok (.ireturn, 1) := dk_172 (dk_at dksX6_countsOf_8 10 rfl rfl)
abbrev cX6_pacesOf : ByteArray := prog_23_method_40_code
def yX6_pacesOf : MethodName := ⟨RX6, "pacesOf", "(I)I"⟩
def dkwX6_pacesOf_1 : List UInt8 := [28, 172]
abbrev dktX6_pacesOf_1 : List UInt8 := dkwX6_pacesOf_1 ++ []
def dkwX6_pacesOf_0 : List UInt8 := [3, 61, 3, 62, 29, 27, 162, 0, 18, 28, 42, 29, 3, 182, 0, 212, 96, 61, 132, 3, 1, 167, 255, 239]
abbrev dktX6_pacesOf_0 : List UInt8 := dkwX6_pacesOf_0 ++ dktX6_pacesOf_1
theorem dksX6_pacesOf_0 : cX6_pacesOf.data.toList.drop 0 = dktX6_pacesOf_0 := by decide +kernel
theorem dksX6_pacesOf_1 : cX6_pacesOf.data.toList.drop 24 = dktX6_pacesOf_1 := dk_seg dksX6_pacesOf_0 24 rfl rfl
theorem dX6_pacesOf_0 : decode cX6_pacesOf 0 = .ok (.iconst 0, 1) := dk_3 (dk_at dksX6_pacesOf_0 0 rfl rfl)
theorem dX6_pacesOf_1 : decode cX6_pacesOf 1 = .ok (.istore_n 2, 1) := dk_61 (dk_at dksX6_pacesOf_0 1 rfl rfl)
theorem dX6_pacesOf_2 : decode cX6_pacesOf 2 = .ok (.iconst 0, 1) := dk_3 (dk_at dksX6_pacesOf_0 2 rfl rfl)
theorem dX6_pacesOf_3 : decode cX6_pacesOf 3 = .ok (.istore_n 3, 1) := dk_62 (dk_at dksX6_pacesOf_0 3 rfl rfl)
theorem dX6_pacesOf_4 : decode cX6_pacesOf 4 = .ok (.iload_n 3, 1) := dk_29 (dk_at dksX6_pacesOf_0 4 rfl rfl)
theorem dX6_pacesOf_5 : decode cX6_pacesOf 5 = .ok (.iload_n 1, 1) := dk_27 (dk_at dksX6_pacesOf_0 5 rfl rfl)
theorem dX6_pacesOf_6 : decode cX6_pacesOf 6 = .ok (.if_icmp .ge 18, 3) := dk_162 0 18 (dk_at dksX6_pacesOf_0 6 rfl rfl)
theorem dX6_pacesOf_9 : decode cX6_pacesOf 9 = .ok (.iload_n 2, 1) := dk_28 (dk_at dksX6_pacesOf_0 9 rfl rfl)
theorem dX6_pacesOf_10 : decode cX6_pacesOf 10 = .ok (.aload_n 0, 1) := dk_42 (dk_at dksX6_pacesOf_0 10 rfl rfl)
theorem dX6_pacesOf_11 : decode cX6_pacesOf 11 = .ok (.iload_n 3, 1) := dk_29 (dk_at dksX6_pacesOf_0 11 rfl rfl)
theorem dX6_pacesOf_12 : decode cX6_pacesOf 12 = .ok (.iconst 0, 1) := dk_3 (dk_at dksX6_pacesOf_0 12 rfl rfl)
theorem dX6_pacesOf_13 : decode cX6_pacesOf 13 = .ok (.invokevirtual 212, 3) := dk_182 0 212 (dk_at dksX6_pacesOf_0 13 rfl rfl)
theorem dX6_pacesOf_16 : decode cX6_pacesOf 16 = .ok (.iadd, 1) := dk_96 (dk_at dksX6_pacesOf_0 16 rfl rfl)
theorem dX6_pacesOf_17 : decode cX6_pacesOf 17 = .ok (.istore_n 2, 1) := dk_61 (dk_at dksX6_pacesOf_0 17 rfl rfl)
theorem dX6_pacesOf_18 : decode cX6_pacesOf 18 = .ok (.iinc 3 1, 3) := dk_132 3 1 (dk_at dksX6_pacesOf_0 18 rfl rfl)
theorem dX6_pacesOf_21 : decode cX6_pacesOf 21 = .ok (.goto (-17), 3) := dk_167 255 239 (dk_at dksX6_pacesOf_0 21 rfl rfl)
theorem dX6_pacesOf_24 : decode cX6_pacesOf 24 = .ok (.iload_n 2, 1) := dk_28 (dk_at dksX6_pacesOf_1 0 rfl rfl)
theorem dX6_pacesOf_25 : decode cX6_pacesOf 25 = .ok (.ireturn, 1) := dk_172 (dk_at dksX6_pacesOf_1 1 rfl rfl)
abbrev cX6_walk : ByteArray := prog_23_method_46_code
def yX6_walk : MethodName := ⟨RX6, "walk", "(IIIZ)I"⟩
def dkwX6_walk_2 : List UInt8 := [21, 4, 182, 0, 238, 172]
abbrev dktX6_walk_2 : List UInt8 := dkwX6_walk_2 ++ []
def dkwX6_walk_1 : List UInt8 := [182, 0, 234, 154, 0, 8, 42, 6, 181, 0, 41, 42, 180, 0, 41, 158, 0, 5, 3, 172, 42, 27, 28, 29]
abbrev dktX6_walk_1 : List UInt8 := dkwX6_walk_1 ++ dktX6_walk_2
def dkwX6_walk_0 : List UInt8 := [42, 42, 27, 28, 29, 182, 0, 227, 181, 0, 41, 42, 180, 0, 41, 154, 0, 19, 42, 27, 29, 21, 4]
abbrev dktX6_walk_0 : List UInt8 := dkwX6_walk_0 ++ dktX6_walk_1
theorem dksX6_walk_0 : cX6_walk.data.toList.drop 0 = dktX6_walk_0 := by decide +kernel
theorem dksX6_walk_1 : cX6_walk.data.toList.drop 23 = dktX6_walk_1 := dk_seg dksX6_walk_0 23 rfl rfl
theorem dksX6_walk_2 : cX6_walk.data.toList.drop 47 = dktX6_walk_2 := dk_seg dksX6_walk_1 24 rfl rfl
theorem dX6_walk_0 : decode cX6_walk 0 = .ok (.aload_n 0, 1) := dk_42 (dk_at dksX6_walk_0 0 rfl rfl)
theorem dX6_walk_1 : decode cX6_walk 1 = .ok (.aload_n 0, 1) := dk_42 (dk_at dksX6_walk_0 1 rfl rfl)
theorem dX6_walk_2 : decode cX6_walk 2 = .ok (.iload_n 1, 1) := dk_27 (dk_at dksX6_walk_0 2 rfl rfl)
theorem dX6_walk_3 : decode cX6_walk 3 = .ok (.iload_n 2, 1) := dk_28 (dk_at dksX6_walk_0 3 rfl rfl)
theorem dX6_walk_4 : decode cX6_walk 4 = .ok (.iload_n 3, 1) := dk_29 (dk_at dksX6_walk_0 4 rfl rfl)
theorem dX6_walk_5 : decode cX6_walk 5 = .ok (.invokevirtual 227, 3) := dk_182 0 227 (dk_at dksX6_walk_0 5 rfl rfl)
theorem dX6_walk_8 : decode cX6_walk 8 = .ok (.putfield 41, 3) := dk_181 0 41 (dk_at dksX6_walk_0 8 rfl rfl)
theorem dX6_walk_11 : decode cX6_walk 11 = .ok (.aload_n 0, 1) := dk_42 (dk_at dksX6_walk_0 11 rfl rfl)
theorem dX6_walk_12 : decode cX6_walk 12 = .ok (.getfield 41, 3) := dk_180 0 41 (dk_at dksX6_walk_0 12 rfl rfl)
theorem dX6_walk_15 : decode cX6_walk 15 = .ok (.ifCond .ne 19, 3) := dk_154 0 19 (dk_at dksX6_walk_0 15 rfl rfl)
theorem dX6_walk_18 : decode cX6_walk 18 = .ok (.aload_n 0, 1) := dk_42 (dk_at dksX6_walk_0 18 rfl rfl)
theorem dX6_walk_19 : decode cX6_walk 19 = .ok (.iload_n 1, 1) := dk_27 (dk_at dksX6_walk_0 19 rfl rfl)
theorem dX6_walk_20 : decode cX6_walk 20 = .ok (.iload_n 3, 1) := dk_29 (dk_at dksX6_walk_0 20 rfl rfl)
theorem dX6_walk_21 : decode cX6_walk 21 = .ok (.iload 4, 2) := dk_21 4 (dk_at dksX6_walk_0 21 rfl rfl)
theorem dX6_walk_23 : decode cX6_walk 23 = .ok (.invokevirtual 234, 3) := dk_182 0 234 (dk_at dksX6_walk_1 0 rfl rfl)
theorem dX6_walk_26 : decode cX6_walk 26 = .ok (.ifCond .ne 8, 3) := dk_154 0 8 (dk_at dksX6_walk_1 3 rfl rfl)
theorem dX6_walk_29 : decode cX6_walk 29 = .ok (.aload_n 0, 1) := dk_42 (dk_at dksX6_walk_1 6 rfl rfl)
theorem dX6_walk_30 : decode cX6_walk 30 = .ok (.iconst 3, 1) := dk_6 (dk_at dksX6_walk_1 7 rfl rfl)
theorem dX6_walk_31 : decode cX6_walk 31 = .ok (.putfield 41, 3) := dk_181 0 41 (dk_at dksX6_walk_1 8 rfl rfl)
theorem dX6_walk_34 : decode cX6_walk 34 = .ok (.aload_n 0, 1) := dk_42 (dk_at dksX6_walk_1 11 rfl rfl)
theorem dX6_walk_35 : decode cX6_walk 35 = .ok (.getfield 41, 3) := dk_180 0 41 (dk_at dksX6_walk_1 12 rfl rfl)
theorem dX6_walk_38 : decode cX6_walk 38 = .ok (.ifCond .le 5, 3) := dk_158 0 5 (dk_at dksX6_walk_1 15 rfl rfl)
theorem dX6_walk_41 : decode cX6_walk 41 = .ok (.iconst 0, 1) := dk_3 (dk_at dksX6_walk_1 18 rfl rfl)
theorem dX6_walk_42 : decode cX6_walk 42 = .ok (.ireturn, 1) := dk_172 (dk_at dksX6_walk_1 19 rfl rfl)
theorem dX6_walk_43 : decode cX6_walk 43 = .ok (.aload_n 0, 1) := dk_42 (dk_at dksX6_walk_1 20 rfl rfl)
theorem dX6_walk_44 : decode cX6_walk 44 = .ok (.iload_n 1, 1) := dk_27 (dk_at dksX6_walk_1 21 rfl rfl)
theorem dX6_walk_45 : decode cX6_walk 45 = .ok (.iload_n 2, 1) := dk_28 (dk_at dksX6_walk_1 22 rfl rfl)
theorem dX6_walk_46 : decode cX6_walk 46 = .ok (.iload_n 3, 1) := dk_29 (dk_at dksX6_walk_1 23 rfl rfl)
theorem dX6_walk_47 : decode cX6_walk 47 = .ok (.iload 4, 2) := dk_21 4 (dk_at dksX6_walk_2 0 rfl rfl)
theorem dX6_walk_49 : decode cX6_walk 49 = .ok (.invokevirtual 238, 3) := dk_182 0 238 (dk_at dksX6_walk_2 2 rfl rfl)
theorem dX6_walk_52 : decode cX6_walk 52 = .ok (.ireturn, 1) := dk_172 (dk_at dksX6_walk_2 5 rfl rfl)
abbrev cX6_mayWalk : ByteArray := prog_23_method_44_code
def yX6_mayWalk : MethodName := ⟨RX6, "mayWalk", "(IIZ)Z"⟩
def dkwX6_mayWalk_6 : List UInt8 := [167, 255, 168, 4, 172]
abbrev dktX6_mayWalk_6 : List UInt8 := dkwX6_mayWalk_6 ++ []
def dkwX6_mayWalk_5 : List UInt8 := [21, 4, 7, 182, 0, 196, 29, 153, 0, 7, 4, 167, 0, 4, 3, 160, 0, 5, 3, 172, 132, 4, 1]
abbrev dktX6_mayWalk_5 : List UInt8 := dkwX6_mayWalk_5 ++ dktX6_mayWalk_6
def dkwX6_mayWalk_4 : List UInt8 := [21, 5, 158, 0, 15, 21, 5, 42, 180, 0, 7, 16, 7, 46, 164, 0, 27, 21, 5, 154, 0, 24, 42]
abbrev dktX6_mayWalk_4 : List UInt8 := dkwX6_mayWalk_4 ++ dktX6_mayWalk_5
def dkwX6_mayWalk_3 : List UInt8 := [159, 0, 6, 167, 0, 63, 42, 180, 0, 7, 16, 8, 46, 42, 21, 4, 3, 182, 0, 196, 100, 54, 5]
abbrev dktX6_mayWalk_3 : List UInt8 := dkwX6_mayWalk_3 ++ dktX6_mayWalk_4
def dkwX6_mayWalk_2 : List UInt8 := [3, 54, 4, 21, 4, 42, 180, 0, 7, 7, 46, 162, 0, 83, 42, 21, 4, 4, 182, 0, 196, 27]
abbrev dktX6_mayWalk_2 : List UInt8 := dkwX6_mayWalk_2 ++ dktX6_mayWalk_3
def dkwX6_mayWalk_1 : List UInt8 := [21, 4, 4, 182, 0, 212, 42, 180, 0, 7, 16, 6, 46, 161, 0, 5, 3, 172, 132, 4, 1, 167, 255, 228]
abbrev dktX6_mayWalk_1 : List UInt8 := dkwX6_mayWalk_1 ++ dktX6_mayWalk_2
def dkwX6_mayWalk_0 : List UInt8 := [42, 180, 0, 7, 7, 46, 16, 60, 160, 0, 5, 3, 172, 3, 54, 4, 21, 4, 28, 162, 0, 28, 42]
abbrev dktX6_mayWalk_0 : List UInt8 := dkwX6_mayWalk_0 ++ dktX6_mayWalk_1
theorem dksX6_mayWalk_0 : cX6_mayWalk.data.toList.drop 0 = dktX6_mayWalk_0 := by decide +kernel
theorem dksX6_mayWalk_1 : cX6_mayWalk.data.toList.drop 23 = dktX6_mayWalk_1 := dk_seg dksX6_mayWalk_0 23 rfl rfl
theorem dksX6_mayWalk_2 : cX6_mayWalk.data.toList.drop 47 = dktX6_mayWalk_2 := dk_seg dksX6_mayWalk_1 24 rfl rfl
theorem dksX6_mayWalk_3 : cX6_mayWalk.data.toList.drop 69 = dktX6_mayWalk_3 := dk_seg dksX6_mayWalk_2 22 rfl rfl
theorem dksX6_mayWalk_4 : cX6_mayWalk.data.toList.drop 92 = dktX6_mayWalk_4 := dk_seg dksX6_mayWalk_3 23 rfl rfl
theorem dksX6_mayWalk_5 : cX6_mayWalk.data.toList.drop 115 = dktX6_mayWalk_5 := dk_seg dksX6_mayWalk_4 23 rfl rfl
theorem dksX6_mayWalk_6 : cX6_mayWalk.data.toList.drop 138 = dktX6_mayWalk_6 := dk_seg dksX6_mayWalk_5 23 rfl rfl
theorem dX6_mayWalk_0 : decode cX6_mayWalk 0 = .ok (.aload_n 0, 1) := dk_42 (dk_at dksX6_mayWalk_0 0 rfl rfl)
theorem dX6_mayWalk_1 : decode cX6_mayWalk 1 = .ok (.getfield 7, 3) := dk_180 0 7 (dk_at dksX6_mayWalk_0 1 rfl rfl)
theorem dX6_mayWalk_4 : decode cX6_mayWalk 4 = .ok (.iconst 4, 1) := dk_7 (dk_at dksX6_mayWalk_0 4 rfl rfl)
theorem dX6_mayWalk_5 : decode cX6_mayWalk 5 = .ok (.iaload, 1) := dk_46 (dk_at dksX6_mayWalk_0 5 rfl rfl)
theorem dX6_mayWalk_6 : decode cX6_mayWalk 6 = .ok (.bipush 60, 2) := dk_16 60 (dk_at dksX6_mayWalk_0 6 rfl rfl)
theorem dX6_mayWalk_8 : decode cX6_mayWalk 8 = .ok (.if_icmp .ne 5, 3) := dk_160 0 5 (dk_at dksX6_mayWalk_0 8 rfl rfl)
theorem dX6_mayWalk_11 : decode cX6_mayWalk 11 = .ok (.iconst 0, 1) := dk_3 (dk_at dksX6_mayWalk_0 11 rfl rfl)
theorem dX6_mayWalk_12 : decode cX6_mayWalk 12 = .ok (.ireturn, 1) := dk_172 (dk_at dksX6_mayWalk_0 12 rfl rfl)
theorem dX6_mayWalk_13 : decode cX6_mayWalk 13 = .ok (.iconst 0, 1) := dk_3 (dk_at dksX6_mayWalk_0 13 rfl rfl)
theorem dX6_mayWalk_14 : decode cX6_mayWalk 14 = .ok (.istore 4, 2) := dk_54 4 (dk_at dksX6_mayWalk_0 14 rfl rfl)
theorem dX6_mayWalk_16 : decode cX6_mayWalk 16 = .ok (.iload 4, 2) := dk_21 4 (dk_at dksX6_mayWalk_0 16 rfl rfl)
theorem dX6_mayWalk_18 : decode cX6_mayWalk 18 = .ok (.iload_n 2, 1) := dk_28 (dk_at dksX6_mayWalk_0 18 rfl rfl)
theorem dX6_mayWalk_19 : decode cX6_mayWalk 19 = .ok (.if_icmp .ge 28, 3) := dk_162 0 28 (dk_at dksX6_mayWalk_0 19 rfl rfl)
theorem dX6_mayWalk_22 : decode cX6_mayWalk 22 = .ok (.aload_n 0, 1) := dk_42 (dk_at dksX6_mayWalk_0 22 rfl rfl)
theorem dX6_mayWalk_23 : decode cX6_mayWalk 23 = .ok (.iload 4, 2) := dk_21 4 (dk_at dksX6_mayWalk_1 0 rfl rfl)
theorem dX6_mayWalk_25 : decode cX6_mayWalk 25 = .ok (.iconst 1, 1) := dk_4 (dk_at dksX6_mayWalk_1 2 rfl rfl)
theorem dX6_mayWalk_26 : decode cX6_mayWalk 26 = .ok (.invokevirtual 212, 3) := dk_182 0 212 (dk_at dksX6_mayWalk_1 3 rfl rfl)
theorem dX6_mayWalk_29 : decode cX6_mayWalk 29 = .ok (.aload_n 0, 1) := dk_42 (dk_at dksX6_mayWalk_1 6 rfl rfl)
theorem dX6_mayWalk_30 : decode cX6_mayWalk 30 = .ok (.getfield 7, 3) := dk_180 0 7 (dk_at dksX6_mayWalk_1 7 rfl rfl)
theorem dX6_mayWalk_33 : decode cX6_mayWalk 33 = .ok (.bipush 6, 2) := dk_16 6 (dk_at dksX6_mayWalk_1 10 rfl rfl)
theorem dX6_mayWalk_35 : decode cX6_mayWalk 35 = .ok (.iaload, 1) := dk_46 (dk_at dksX6_mayWalk_1 12 rfl rfl)
theorem dX6_mayWalk_36 : decode cX6_mayWalk 36 = .ok (.if_icmp .lt 5, 3) := dk_161 0 5 (dk_at dksX6_mayWalk_1 13 rfl rfl)
theorem dX6_mayWalk_39 : decode cX6_mayWalk 39 = .ok (.iconst 0, 1) := dk_3 (dk_at dksX6_mayWalk_1 16 rfl rfl)
theorem dX6_mayWalk_40 : decode cX6_mayWalk 40 = .ok (.ireturn, 1) := dk_172 (dk_at dksX6_mayWalk_1 17 rfl rfl)
theorem dX6_mayWalk_41 : decode cX6_mayWalk 41 = .ok (.iinc 4 1, 3) := dk_132 4 1 (dk_at dksX6_mayWalk_1 18 rfl rfl)
theorem dX6_mayWalk_44 : decode cX6_mayWalk 44 = .ok (.goto (-28), 3) := dk_167 255 228 (dk_at dksX6_mayWalk_1 21 rfl rfl)
theorem dX6_mayWalk_47 : decode cX6_mayWalk 47 = .ok (.iconst 0, 1) := dk_3 (dk_at dksX6_mayWalk_2 0 rfl rfl)
theorem dX6_mayWalk_48 : decode cX6_mayWalk 48 = .ok (.istore 4, 2) := dk_54 4 (dk_at dksX6_mayWalk_2 1 rfl rfl)
theorem dX6_mayWalk_50 : decode cX6_mayWalk 50 = .ok (.iload 4, 2) := dk_21 4 (dk_at dksX6_mayWalk_2 3 rfl rfl)
theorem dX6_mayWalk_52 : decode cX6_mayWalk 52 = .ok (.aload_n 0, 1) := dk_42 (dk_at dksX6_mayWalk_2 5 rfl rfl)
theorem dX6_mayWalk_53 : decode cX6_mayWalk 53 = .ok (.getfield 7, 3) := dk_180 0 7 (dk_at dksX6_mayWalk_2 6 rfl rfl)
theorem dX6_mayWalk_56 : decode cX6_mayWalk 56 = .ok (.iconst 4, 1) := dk_7 (dk_at dksX6_mayWalk_2 9 rfl rfl)
theorem dX6_mayWalk_57 : decode cX6_mayWalk 57 = .ok (.iaload, 1) := dk_46 (dk_at dksX6_mayWalk_2 10 rfl rfl)
theorem dX6_mayWalk_58 : decode cX6_mayWalk 58 = .ok (.if_icmp .ge 83, 3) := dk_162 0 83 (dk_at dksX6_mayWalk_2 11 rfl rfl)
theorem dX6_mayWalk_61 : decode cX6_mayWalk 61 = .ok (.aload_n 0, 1) := dk_42 (dk_at dksX6_mayWalk_2 14 rfl rfl)
theorem dX6_mayWalk_62 : decode cX6_mayWalk 62 = .ok (.iload 4, 2) := dk_21 4 (dk_at dksX6_mayWalk_2 15 rfl rfl)
theorem dX6_mayWalk_64 : decode cX6_mayWalk 64 = .ok (.iconst 1, 1) := dk_4 (dk_at dksX6_mayWalk_2 17 rfl rfl)
theorem dX6_mayWalk_65 : decode cX6_mayWalk 65 = .ok (.invokevirtual 196, 3) := dk_182 0 196 (dk_at dksX6_mayWalk_2 18 rfl rfl)
theorem dX6_mayWalk_68 : decode cX6_mayWalk 68 = .ok (.iload_n 1, 1) := dk_27 (dk_at dksX6_mayWalk_2 21 rfl rfl)
theorem dX6_mayWalk_69 : decode cX6_mayWalk 69 = .ok (.if_icmp .eq 6, 3) := dk_159 0 6 (dk_at dksX6_mayWalk_3 0 rfl rfl)
theorem dX6_mayWalk_72 : decode cX6_mayWalk 72 = .ok (.goto 63, 3) := dk_167 0 63 (dk_at dksX6_mayWalk_3 3 rfl rfl)
theorem dX6_mayWalk_75 : decode cX6_mayWalk 75 = .ok (.aload_n 0, 1) := dk_42 (dk_at dksX6_mayWalk_3 6 rfl rfl)
theorem dX6_mayWalk_76 : decode cX6_mayWalk 76 = .ok (.getfield 7, 3) := dk_180 0 7 (dk_at dksX6_mayWalk_3 7 rfl rfl)
theorem dX6_mayWalk_79 : decode cX6_mayWalk 79 = .ok (.bipush 8, 2) := dk_16 8 (dk_at dksX6_mayWalk_3 10 rfl rfl)
theorem dX6_mayWalk_81 : decode cX6_mayWalk 81 = .ok (.iaload, 1) := dk_46 (dk_at dksX6_mayWalk_3 12 rfl rfl)
theorem dX6_mayWalk_82 : decode cX6_mayWalk 82 = .ok (.aload_n 0, 1) := dk_42 (dk_at dksX6_mayWalk_3 13 rfl rfl)
theorem dX6_mayWalk_83 : decode cX6_mayWalk 83 = .ok (.iload 4, 2) := dk_21 4 (dk_at dksX6_mayWalk_3 14 rfl rfl)
theorem dX6_mayWalk_85 : decode cX6_mayWalk 85 = .ok (.iconst 0, 1) := dk_3 (dk_at dksX6_mayWalk_3 16 rfl rfl)
theorem dX6_mayWalk_86 : decode cX6_mayWalk 86 = .ok (.invokevirtual 196, 3) := dk_182 0 196 (dk_at dksX6_mayWalk_3 17 rfl rfl)
theorem dX6_mayWalk_89 : decode cX6_mayWalk 89 = .ok (.isub, 1) := dk_100 (dk_at dksX6_mayWalk_3 20 rfl rfl)
theorem dX6_mayWalk_90 : decode cX6_mayWalk 90 = .ok (.istore 5, 2) := dk_54 5 (dk_at dksX6_mayWalk_3 21 rfl rfl)
theorem dX6_mayWalk_92 : decode cX6_mayWalk 92 = .ok (.iload 5, 2) := dk_21 5 (dk_at dksX6_mayWalk_4 0 rfl rfl)
theorem dX6_mayWalk_94 : decode cX6_mayWalk 94 = .ok (.ifCond .le 15, 3) := dk_158 0 15 (dk_at dksX6_mayWalk_4 2 rfl rfl)
theorem dX6_mayWalk_97 : decode cX6_mayWalk 97 = .ok (.iload 5, 2) := dk_21 5 (dk_at dksX6_mayWalk_4 5 rfl rfl)
theorem dX6_mayWalk_99 : decode cX6_mayWalk 99 = .ok (.aload_n 0, 1) := dk_42 (dk_at dksX6_mayWalk_4 7 rfl rfl)
theorem dX6_mayWalk_100 : decode cX6_mayWalk 100 = .ok (.getfield 7, 3) := dk_180 0 7 (dk_at dksX6_mayWalk_4 8 rfl rfl)
theorem dX6_mayWalk_103 : decode cX6_mayWalk 103 = .ok (.bipush 7, 2) := dk_16 7 (dk_at dksX6_mayWalk_4 11 rfl rfl)
theorem dX6_mayWalk_105 : decode cX6_mayWalk 105 = .ok (.iaload, 1) := dk_46 (dk_at dksX6_mayWalk_4 13 rfl rfl)
theorem dX6_mayWalk_106 : decode cX6_mayWalk 106 = .ok (.if_icmp .le 27, 3) := dk_164 0 27 (dk_at dksX6_mayWalk_4 14 rfl rfl)
theorem dX6_mayWalk_109 : decode cX6_mayWalk 109 = .ok (.iload 5, 2) := dk_21 5 (dk_at dksX6_mayWalk_4 17 rfl rfl)
theorem dX6_mayWalk_111 : decode cX6_mayWalk 111 = .ok (.ifCond .ne 24, 3) := dk_154 0 24 (dk_at dksX6_mayWalk_4 19 rfl rfl)
theorem dX6_mayWalk_114 : decode cX6_mayWalk 114 = .ok (.aload_n 0, 1) := dk_42 (dk_at dksX6_mayWalk_4 22 rfl rfl)
theorem dX6_mayWalk_115 : decode cX6_mayWalk 115 = .ok (.iload 4, 2) := dk_21 4 (dk_at dksX6_mayWalk_5 0 rfl rfl)
theorem dX6_mayWalk_117 : decode cX6_mayWalk 117 = .ok (.iconst 4, 1) := dk_7 (dk_at dksX6_mayWalk_5 2 rfl rfl)
theorem dX6_mayWalk_118 : decode cX6_mayWalk 118 = .ok (.invokevirtual 196, 3) := dk_182 0 196 (dk_at dksX6_mayWalk_5 3 rfl rfl)
theorem dX6_mayWalk_121 : decode cX6_mayWalk 121 = .ok (.iload_n 3, 1) := dk_29 (dk_at dksX6_mayWalk_5 6 rfl rfl)
theorem dX6_mayWalk_122 : decode cX6_mayWalk 122 = .ok (.ifCond .eq 7, 3) := dk_153 0 7 (dk_at dksX6_mayWalk_5 7 rfl rfl)
theorem dX6_mayWalk_125 : decode cX6_mayWalk 125 = .ok (.iconst 1, 1) := dk_4 (dk_at dksX6_mayWalk_5 10 rfl rfl)
theorem dX6_mayWalk_126 : decode cX6_mayWalk 126 = .ok (.goto 4, 3) := dk_167 0 4 (dk_at dksX6_mayWalk_5 11 rfl rfl)
theorem dX6_mayWalk_129 : decode cX6_mayWalk 129 = .ok (.iconst 0, 1) := dk_3 (dk_at dksX6_mayWalk_5 14 rfl rfl)
theorem dX6_mayWalk_130 : decode cX6_mayWalk 130 = .ok (.if_icmp .ne 5, 3) := dk_160 0 5 (dk_at dksX6_mayWalk_5 15 rfl rfl)
theorem dX6_mayWalk_133 : decode cX6_mayWalk 133 = .ok (.iconst 0, 1) := dk_3 (dk_at dksX6_mayWalk_5 18 rfl rfl)
theorem dX6_mayWalk_134 : decode cX6_mayWalk 134 = .ok (.ireturn, 1) := dk_172 (dk_at dksX6_mayWalk_5 19 rfl rfl)
theorem dX6_mayWalk_135 : decode cX6_mayWalk 135 = .ok (.iinc 4 1, 3) := dk_132 4 1 (dk_at dksX6_mayWalk_5 20 rfl rfl)
theorem dX6_mayWalk_138 : decode cX6_mayWalk 138 = .ok (.goto (-88), 3) := dk_167 255 168 (dk_at dksX6_mayWalk_6 0 rfl rfl)
theorem dX6_mayWalk_141 : decode cX6_mayWalk 141 = .ok (.iconst 1, 1) := dk_4 (dk_at dksX6_mayWalk_6 3 rfl rfl)
theorem dX6_mayWalk_142 : decode cX6_mayWalk 142 = .ok (.ireturn, 1) := dk_172 (dk_at dksX6_mayWalk_6 4 rfl rfl)
abbrev cX6_walks : ByteArray := prog_23_method_45_code
def yX6_walks : MethodName := ⟨RX6, "walks", "(IIIZ)I"⟩
def dkwX6_walks_8 : List UInt8 := [4, 96, 92, 46, 4, 96, 79, 132, 7, 1, 167, 255, 229, 21, 5, 172]
abbrev dktX6_walks_8 : List UInt8 := dkwX6_walks_8 ++ []
def dkwX6_walks_7 : List UInt8 := [21, 5, 100, 79, 3, 54, 7, 21, 7, 29, 162, 0, 27, 42, 180, 0, 7, 16, 68, 6, 21, 7, 104, 96]
abbrev dktX6_walks_7 : List UInt8 := dkwX6_walks_7 ++ dktX6_walks_8
def dkwX6_walks_6 : List UInt8 := [96, 3, 79, 42, 180, 0, 7, 7, 92, 46, 4, 96, 79, 42, 180, 0, 7, 16, 12, 28, 96, 92, 46]
abbrev dktX6_walks_6 : List UInt8 := dkwX6_walks_6 ++ dktX6_walks_7
def dkwX6_walks_5 : List UInt8 := [167, 0, 4, 3, 79, 42, 180, 0, 7, 21, 6, 8, 96, 21, 5, 79, 42, 180, 0, 7, 21, 6, 16, 6]
abbrev dktX6_walks_5 : List UInt8 := dkwX6_walks_5 ++ dktX6_walks_6
def dkwX6_walks_4 : List UInt8 := [180, 0, 7, 21, 6, 6, 96, 29, 79, 42, 180, 0, 7, 21, 6, 7, 96, 21, 4, 153, 0, 7, 4]
abbrev dktX6_walks_4 : List UInt8 := dkwX6_walks_4 ++ dktX6_walks_5
def dkwX6_walks_3 : List UInt8 := [79, 42, 180, 0, 7, 21, 6, 4, 96, 27, 79, 42, 180, 0, 7, 21, 6, 5, 96, 28, 79, 42]
abbrev dktX6_walks_3 : List UInt8 := dkwX6_walks_3 ++ dktX6_walks_4
def dkwX6_walks_2 : List UInt8 := [180, 0, 7, 7, 46, 104, 96, 54, 6, 42, 180, 0, 7, 21, 6, 3, 96, 42, 180, 0, 7, 16, 8, 46]
abbrev dktX6_walks_2 : List UInt8 := dkwX6_walks_2 ++ dktX6_walks_3
def dkwX6_walks_1 : List UInt8 := [162, 0, 8, 21, 5, 167, 0, 12, 42, 180, 0, 7, 16, 12, 28, 96, 46, 54, 5, 16, 122, 16, 7, 42]
abbrev dktX6_walks_1 : List UInt8 := dkwX6_walks_1 ++ dktX6_walks_2
def dkwX6_walks_0 : List UInt8 := [42, 27, 28, 29, 21, 4, 182, 0, 230, 54, 5, 21, 5, 42, 180, 0, 7, 16, 12, 28, 96, 46]
abbrev dktX6_walks_0 : List UInt8 := dkwX6_walks_0 ++ dktX6_walks_1
theorem dksX6_walks_0 : cX6_walks.data.toList.drop 0 = dktX6_walks_0 := by decide +kernel
theorem dksX6_walks_1 : cX6_walks.data.toList.drop 22 = dktX6_walks_1 := dk_seg dksX6_walks_0 22 rfl rfl
theorem dksX6_walks_2 : cX6_walks.data.toList.drop 46 = dktX6_walks_2 := dk_seg dksX6_walks_1 24 rfl rfl
theorem dksX6_walks_3 : cX6_walks.data.toList.drop 70 = dktX6_walks_3 := dk_seg dksX6_walks_2 24 rfl rfl
theorem dksX6_walks_4 : cX6_walks.data.toList.drop 92 = dktX6_walks_4 := dk_seg dksX6_walks_3 22 rfl rfl
theorem dksX6_walks_5 : cX6_walks.data.toList.drop 115 = dktX6_walks_5 := dk_seg dksX6_walks_4 23 rfl rfl
theorem dksX6_walks_6 : cX6_walks.data.toList.drop 139 = dktX6_walks_6 := dk_seg dksX6_walks_5 24 rfl rfl
theorem dksX6_walks_7 : cX6_walks.data.toList.drop 162 = dktX6_walks_7 := dk_seg dksX6_walks_6 23 rfl rfl
theorem dksX6_walks_8 : cX6_walks.data.toList.drop 186 = dktX6_walks_8 := dk_seg dksX6_walks_7 24 rfl rfl
theorem dX6_walks_0 : decode cX6_walks 0 = .ok (.aload_n 0, 1) := dk_42 (dk_at dksX6_walks_0 0 rfl rfl)
theorem dX6_walks_1 : decode cX6_walks 1 = .ok (.iload_n 1, 1) := dk_27 (dk_at dksX6_walks_0 1 rfl rfl)
theorem dX6_walks_2 : decode cX6_walks 2 = .ok (.iload_n 2, 1) := dk_28 (dk_at dksX6_walks_0 2 rfl rfl)
theorem dX6_walks_3 : decode cX6_walks 3 = .ok (.iload_n 3, 1) := dk_29 (dk_at dksX6_walks_0 3 rfl rfl)
theorem dX6_walks_4 : decode cX6_walks 4 = .ok (.iload 4, 2) := dk_21 4 (dk_at dksX6_walks_0 4 rfl rfl)
theorem dX6_walks_6 : decode cX6_walks 6 = .ok (.invokevirtual 230, 3) := dk_182 0 230 (dk_at dksX6_walks_0 6 rfl rfl)
theorem dX6_walks_9 : decode cX6_walks 9 = .ok (.istore 5, 2) := dk_54 5 (dk_at dksX6_walks_0 9 rfl rfl)
theorem dX6_walks_11 : decode cX6_walks 11 = .ok (.iload 5, 2) := dk_21 5 (dk_at dksX6_walks_0 11 rfl rfl)
theorem dX6_walks_13 : decode cX6_walks 13 = .ok (.aload_n 0, 1) := dk_42 (dk_at dksX6_walks_0 13 rfl rfl)
theorem dX6_walks_14 : decode cX6_walks 14 = .ok (.getfield 7, 3) := dk_180 0 7 (dk_at dksX6_walks_0 14 rfl rfl)
theorem dX6_walks_17 : decode cX6_walks 17 = .ok (.bipush 12, 2) := dk_16 12 (dk_at dksX6_walks_0 17 rfl rfl)
theorem dX6_walks_19 : decode cX6_walks 19 = .ok (.iload_n 2, 1) := dk_28 (dk_at dksX6_walks_0 19 rfl rfl)
theorem dX6_walks_20 : decode cX6_walks 20 = .ok (.iadd, 1) := dk_96 (dk_at dksX6_walks_0 20 rfl rfl)
theorem dX6_walks_21 : decode cX6_walks 21 = .ok (.iaload, 1) := dk_46 (dk_at dksX6_walks_0 21 rfl rfl)
theorem dX6_walks_22 : decode cX6_walks 22 = .ok (.if_icmp .ge 8, 3) := dk_162 0 8 (dk_at dksX6_walks_1 0 rfl rfl)
theorem dX6_walks_25 : decode cX6_walks 25 = .ok (.iload 5, 2) := dk_21 5 (dk_at dksX6_walks_1 3 rfl rfl)
theorem dX6_walks_27 : decode cX6_walks 27 = .ok (.goto 12, 3) := dk_167 0 12 (dk_at dksX6_walks_1 5 rfl rfl)
theorem dX6_walks_30 : decode cX6_walks 30 = .ok (.aload_n 0, 1) := dk_42 (dk_at dksX6_walks_1 8 rfl rfl)
theorem dX6_walks_31 : decode cX6_walks 31 = .ok (.getfield 7, 3) := dk_180 0 7 (dk_at dksX6_walks_1 9 rfl rfl)
theorem dX6_walks_34 : decode cX6_walks 34 = .ok (.bipush 12, 2) := dk_16 12 (dk_at dksX6_walks_1 12 rfl rfl)
theorem dX6_walks_36 : decode cX6_walks 36 = .ok (.iload_n 2, 1) := dk_28 (dk_at dksX6_walks_1 14 rfl rfl)
theorem dX6_walks_37 : decode cX6_walks 37 = .ok (.iadd, 1) := dk_96 (dk_at dksX6_walks_1 15 rfl rfl)
theorem dX6_walks_38 : decode cX6_walks 38 = .ok (.iaload, 1) := dk_46 (dk_at dksX6_walks_1 16 rfl rfl)
theorem dX6_walks_39 : decode cX6_walks 39 = .ok (.istore 5, 2) := dk_54 5 (dk_at dksX6_walks_1 17 rfl rfl)
theorem dX6_walks_41 : decode cX6_walks 41 = .ok (.bipush 122, 2) := dk_16 122 (dk_at dksX6_walks_1 19 rfl rfl)
theorem dX6_walks_43 : decode cX6_walks 43 = .ok (.bipush 7, 2) := dk_16 7 (dk_at dksX6_walks_1 21 rfl rfl)
theorem dX6_walks_45 : decode cX6_walks 45 = .ok (.aload_n 0, 1) := dk_42 (dk_at dksX6_walks_1 23 rfl rfl)
theorem dX6_walks_46 : decode cX6_walks 46 = .ok (.getfield 7, 3) := dk_180 0 7 (dk_at dksX6_walks_2 0 rfl rfl)
theorem dX6_walks_49 : decode cX6_walks 49 = .ok (.iconst 4, 1) := dk_7 (dk_at dksX6_walks_2 3 rfl rfl)
theorem dX6_walks_50 : decode cX6_walks 50 = .ok (.iaload, 1) := dk_46 (dk_at dksX6_walks_2 4 rfl rfl)
theorem dX6_walks_51 : decode cX6_walks 51 = .ok (.imul, 1) := dk_104 (dk_at dksX6_walks_2 5 rfl rfl)
theorem dX6_walks_52 : decode cX6_walks 52 = .ok (.iadd, 1) := dk_96 (dk_at dksX6_walks_2 6 rfl rfl)
theorem dX6_walks_53 : decode cX6_walks 53 = .ok (.istore 6, 2) := dk_54 6 (dk_at dksX6_walks_2 7 rfl rfl)
theorem dX6_walks_55 : decode cX6_walks 55 = .ok (.aload_n 0, 1) := dk_42 (dk_at dksX6_walks_2 9 rfl rfl)
theorem dX6_walks_56 : decode cX6_walks 56 = .ok (.getfield 7, 3) := dk_180 0 7 (dk_at dksX6_walks_2 10 rfl rfl)
theorem dX6_walks_59 : decode cX6_walks 59 = .ok (.iload 6, 2) := dk_21 6 (dk_at dksX6_walks_2 13 rfl rfl)
theorem dX6_walks_61 : decode cX6_walks 61 = .ok (.iconst 0, 1) := dk_3 (dk_at dksX6_walks_2 15 rfl rfl)
theorem dX6_walks_62 : decode cX6_walks 62 = .ok (.iadd, 1) := dk_96 (dk_at dksX6_walks_2 16 rfl rfl)
theorem dX6_walks_63 : decode cX6_walks 63 = .ok (.aload_n 0, 1) := dk_42 (dk_at dksX6_walks_2 17 rfl rfl)
theorem dX6_walks_64 : decode cX6_walks 64 = .ok (.getfield 7, 3) := dk_180 0 7 (dk_at dksX6_walks_2 18 rfl rfl)
theorem dX6_walks_67 : decode cX6_walks 67 = .ok (.bipush 8, 2) := dk_16 8 (dk_at dksX6_walks_2 21 rfl rfl)
theorem dX6_walks_69 : decode cX6_walks 69 = .ok (.iaload, 1) := dk_46 (dk_at dksX6_walks_2 23 rfl rfl)
theorem dX6_walks_70 : decode cX6_walks 70 = .ok (.iastore, 1) := dk_79 (dk_at dksX6_walks_3 0 rfl rfl)
theorem dX6_walks_71 : decode cX6_walks 71 = .ok (.aload_n 0, 1) := dk_42 (dk_at dksX6_walks_3 1 rfl rfl)
theorem dX6_walks_72 : decode cX6_walks 72 = .ok (.getfield 7, 3) := dk_180 0 7 (dk_at dksX6_walks_3 2 rfl rfl)
theorem dX6_walks_75 : decode cX6_walks 75 = .ok (.iload 6, 2) := dk_21 6 (dk_at dksX6_walks_3 5 rfl rfl)
theorem dX6_walks_77 : decode cX6_walks 77 = .ok (.iconst 1, 1) := dk_4 (dk_at dksX6_walks_3 7 rfl rfl)
theorem dX6_walks_78 : decode cX6_walks 78 = .ok (.iadd, 1) := dk_96 (dk_at dksX6_walks_3 8 rfl rfl)
theorem dX6_walks_79 : decode cX6_walks 79 = .ok (.iload_n 1, 1) := dk_27 (dk_at dksX6_walks_3 9 rfl rfl)
theorem dX6_walks_80 : decode cX6_walks 80 = .ok (.iastore, 1) := dk_79 (dk_at dksX6_walks_3 10 rfl rfl)
theorem dX6_walks_81 : decode cX6_walks 81 = .ok (.aload_n 0, 1) := dk_42 (dk_at dksX6_walks_3 11 rfl rfl)
theorem dX6_walks_82 : decode cX6_walks 82 = .ok (.getfield 7, 3) := dk_180 0 7 (dk_at dksX6_walks_3 12 rfl rfl)
theorem dX6_walks_85 : decode cX6_walks 85 = .ok (.iload 6, 2) := dk_21 6 (dk_at dksX6_walks_3 15 rfl rfl)
theorem dX6_walks_87 : decode cX6_walks 87 = .ok (.iconst 2, 1) := dk_5 (dk_at dksX6_walks_3 17 rfl rfl)
theorem dX6_walks_88 : decode cX6_walks 88 = .ok (.iadd, 1) := dk_96 (dk_at dksX6_walks_3 18 rfl rfl)
theorem dX6_walks_89 : decode cX6_walks 89 = .ok (.iload_n 2, 1) := dk_28 (dk_at dksX6_walks_3 19 rfl rfl)
theorem dX6_walks_90 : decode cX6_walks 90 = .ok (.iastore, 1) := dk_79 (dk_at dksX6_walks_3 20 rfl rfl)
theorem dX6_walks_91 : decode cX6_walks 91 = .ok (.aload_n 0, 1) := dk_42 (dk_at dksX6_walks_3 21 rfl rfl)
theorem dX6_walks_92 : decode cX6_walks 92 = .ok (.getfield 7, 3) := dk_180 0 7 (dk_at dksX6_walks_4 0 rfl rfl)
theorem dX6_walks_95 : decode cX6_walks 95 = .ok (.iload 6, 2) := dk_21 6 (dk_at dksX6_walks_4 3 rfl rfl)
theorem dX6_walks_97 : decode cX6_walks 97 = .ok (.iconst 3, 1) := dk_6 (dk_at dksX6_walks_4 5 rfl rfl)
theorem dX6_walks_98 : decode cX6_walks 98 = .ok (.iadd, 1) := dk_96 (dk_at dksX6_walks_4 6 rfl rfl)
theorem dX6_walks_99 : decode cX6_walks 99 = .ok (.iload_n 3, 1) := dk_29 (dk_at dksX6_walks_4 7 rfl rfl)
theorem dX6_walks_100 : decode cX6_walks 100 = .ok (.iastore, 1) := dk_79 (dk_at dksX6_walks_4 8 rfl rfl)
theorem dX6_walks_101 : decode cX6_walks 101 = .ok (.aload_n 0, 1) := dk_42 (dk_at dksX6_walks_4 9 rfl rfl)
theorem dX6_walks_102 : decode cX6_walks 102 = .ok (.getfield 7, 3) := dk_180 0 7 (dk_at dksX6_walks_4 10 rfl rfl)
theorem dX6_walks_105 : decode cX6_walks 105 = .ok (.iload 6, 2) := dk_21 6 (dk_at dksX6_walks_4 13 rfl rfl)
theorem dX6_walks_107 : decode cX6_walks 107 = .ok (.iconst 4, 1) := dk_7 (dk_at dksX6_walks_4 15 rfl rfl)
theorem dX6_walks_108 : decode cX6_walks 108 = .ok (.iadd, 1) := dk_96 (dk_at dksX6_walks_4 16 rfl rfl)
theorem dX6_walks_109 : decode cX6_walks 109 = .ok (.iload 4, 2) := dk_21 4 (dk_at dksX6_walks_4 17 rfl rfl)
theorem dX6_walks_111 : decode cX6_walks 111 = .ok (.ifCond .eq 7, 3) := dk_153 0 7 (dk_at dksX6_walks_4 19 rfl rfl)
theorem dX6_walks_114 : decode cX6_walks 114 = .ok (.iconst 1, 1) := dk_4 (dk_at dksX6_walks_4 22 rfl rfl)
theorem dX6_walks_115 : decode cX6_walks 115 = .ok (.goto 4, 3) := dk_167 0 4 (dk_at dksX6_walks_5 0 rfl rfl)
theorem dX6_walks_118 : decode cX6_walks 118 = .ok (.iconst 0, 1) := dk_3 (dk_at dksX6_walks_5 3 rfl rfl)
theorem dX6_walks_119 : decode cX6_walks 119 = .ok (.iastore, 1) := dk_79 (dk_at dksX6_walks_5 4 rfl rfl)
theorem dX6_walks_120 : decode cX6_walks 120 = .ok (.aload_n 0, 1) := dk_42 (dk_at dksX6_walks_5 5 rfl rfl)
theorem dX6_walks_121 : decode cX6_walks 121 = .ok (.getfield 7, 3) := dk_180 0 7 (dk_at dksX6_walks_5 6 rfl rfl)
theorem dX6_walks_124 : decode cX6_walks 124 = .ok (.iload 6, 2) := dk_21 6 (dk_at dksX6_walks_5 9 rfl rfl)
theorem dX6_walks_126 : decode cX6_walks 126 = .ok (.iconst 5, 1) := dk_8 (dk_at dksX6_walks_5 11 rfl rfl)
theorem dX6_walks_127 : decode cX6_walks 127 = .ok (.iadd, 1) := dk_96 (dk_at dksX6_walks_5 12 rfl rfl)
theorem dX6_walks_128 : decode cX6_walks 128 = .ok (.iload 5, 2) := dk_21 5 (dk_at dksX6_walks_5 13 rfl rfl)
theorem dX6_walks_130 : decode cX6_walks 130 = .ok (.iastore, 1) := dk_79 (dk_at dksX6_walks_5 15 rfl rfl)
theorem dX6_walks_131 : decode cX6_walks 131 = .ok (.aload_n 0, 1) := dk_42 (dk_at dksX6_walks_5 16 rfl rfl)
theorem dX6_walks_132 : decode cX6_walks 132 = .ok (.getfield 7, 3) := dk_180 0 7 (dk_at dksX6_walks_5 17 rfl rfl)
theorem dX6_walks_135 : decode cX6_walks 135 = .ok (.iload 6, 2) := dk_21 6 (dk_at dksX6_walks_5 20 rfl rfl)
theorem dX6_walks_137 : decode cX6_walks 137 = .ok (.bipush 6, 2) := dk_16 6 (dk_at dksX6_walks_5 22 rfl rfl)
theorem dX6_walks_139 : decode cX6_walks 139 = .ok (.iadd, 1) := dk_96 (dk_at dksX6_walks_6 0 rfl rfl)
theorem dX6_walks_140 : decode cX6_walks 140 = .ok (.iconst 0, 1) := dk_3 (dk_at dksX6_walks_6 1 rfl rfl)
theorem dX6_walks_141 : decode cX6_walks 141 = .ok (.iastore, 1) := dk_79 (dk_at dksX6_walks_6 2 rfl rfl)
theorem dX6_walks_142 : decode cX6_walks 142 = .ok (.aload_n 0, 1) := dk_42 (dk_at dksX6_walks_6 3 rfl rfl)
theorem dX6_walks_143 : decode cX6_walks 143 = .ok (.getfield 7, 3) := dk_180 0 7 (dk_at dksX6_walks_6 4 rfl rfl)
theorem dX6_walks_146 : decode cX6_walks 146 = .ok (.iconst 4, 1) := dk_7 (dk_at dksX6_walks_6 7 rfl rfl)
theorem dX6_walks_147 : decode cX6_walks 147 = .ok (.dup2, 1) := dk_92 (dk_at dksX6_walks_6 8 rfl rfl)
theorem dX6_walks_148 : decode cX6_walks 148 = .ok (.iaload, 1) := dk_46 (dk_at dksX6_walks_6 9 rfl rfl)
theorem dX6_walks_149 : decode cX6_walks 149 = .ok (.iconst 1, 1) := dk_4 (dk_at dksX6_walks_6 10 rfl rfl)
theorem dX6_walks_150 : decode cX6_walks 150 = .ok (.iadd, 1) := dk_96 (dk_at dksX6_walks_6 11 rfl rfl)
theorem dX6_walks_151 : decode cX6_walks 151 = .ok (.iastore, 1) := dk_79 (dk_at dksX6_walks_6 12 rfl rfl)
theorem dX6_walks_152 : decode cX6_walks 152 = .ok (.aload_n 0, 1) := dk_42 (dk_at dksX6_walks_6 13 rfl rfl)
theorem dX6_walks_153 : decode cX6_walks 153 = .ok (.getfield 7, 3) := dk_180 0 7 (dk_at dksX6_walks_6 14 rfl rfl)
theorem dX6_walks_156 : decode cX6_walks 156 = .ok (.bipush 12, 2) := dk_16 12 (dk_at dksX6_walks_6 17 rfl rfl)
theorem dX6_walks_158 : decode cX6_walks 158 = .ok (.iload_n 2, 1) := dk_28 (dk_at dksX6_walks_6 19 rfl rfl)
theorem dX6_walks_159 : decode cX6_walks 159 = .ok (.iadd, 1) := dk_96 (dk_at dksX6_walks_6 20 rfl rfl)
theorem dX6_walks_160 : decode cX6_walks 160 = .ok (.dup2, 1) := dk_92 (dk_at dksX6_walks_6 21 rfl rfl)
theorem dX6_walks_161 : decode cX6_walks 161 = .ok (.iaload, 1) := dk_46 (dk_at dksX6_walks_6 22 rfl rfl)
theorem dX6_walks_162 : decode cX6_walks 162 = .ok (.iload 5, 2) := dk_21 5 (dk_at dksX6_walks_7 0 rfl rfl)
theorem dX6_walks_164 : decode cX6_walks 164 = .ok (.isub, 1) := dk_100 (dk_at dksX6_walks_7 2 rfl rfl)
theorem dX6_walks_165 : decode cX6_walks 165 = .ok (.iastore, 1) := dk_79 (dk_at dksX6_walks_7 3 rfl rfl)
theorem dX6_walks_166 : decode cX6_walks 166 = .ok (.iconst 0, 1) := dk_3 (dk_at dksX6_walks_7 4 rfl rfl)
theorem dX6_walks_167 : decode cX6_walks 167 = .ok (.istore 7, 2) := dk_54 7 (dk_at dksX6_walks_7 5 rfl rfl)
theorem dX6_walks_169 : decode cX6_walks 169 = .ok (.iload 7, 2) := dk_21 7 (dk_at dksX6_walks_7 7 rfl rfl)
theorem dX6_walks_171 : decode cX6_walks 171 = .ok (.iload_n 3, 1) := dk_29 (dk_at dksX6_walks_7 9 rfl rfl)
theorem dX6_walks_172 : decode cX6_walks 172 = .ok (.if_icmp .ge 27, 3) := dk_162 0 27 (dk_at dksX6_walks_7 10 rfl rfl)
theorem dX6_walks_175 : decode cX6_walks 175 = .ok (.aload_n 0, 1) := dk_42 (dk_at dksX6_walks_7 13 rfl rfl)
theorem dX6_walks_176 : decode cX6_walks 176 = .ok (.getfield 7, 3) := dk_180 0 7 (dk_at dksX6_walks_7 14 rfl rfl)
theorem dX6_walks_179 : decode cX6_walks 179 = .ok (.bipush 68, 2) := dk_16 68 (dk_at dksX6_walks_7 17 rfl rfl)
theorem dX6_walks_181 : decode cX6_walks 181 = .ok (.iconst 3, 1) := dk_6 (dk_at dksX6_walks_7 19 rfl rfl)
theorem dX6_walks_182 : decode cX6_walks 182 = .ok (.iload 7, 2) := dk_21 7 (dk_at dksX6_walks_7 20 rfl rfl)
theorem dX6_walks_184 : decode cX6_walks 184 = .ok (.imul, 1) := dk_104 (dk_at dksX6_walks_7 22 rfl rfl)
theorem dX6_walks_185 : decode cX6_walks 185 = .ok (.iadd, 1) := dk_96 (dk_at dksX6_walks_7 23 rfl rfl)
theorem dX6_walks_186 : decode cX6_walks 186 = .ok (.iconst 1, 1) := dk_4 (dk_at dksX6_walks_8 0 rfl rfl)
theorem dX6_walks_187 : decode cX6_walks 187 = .ok (.iadd, 1) := dk_96 (dk_at dksX6_walks_8 1 rfl rfl)
theorem dX6_walks_188 : decode cX6_walks 188 = .ok (.dup2, 1) := dk_92 (dk_at dksX6_walks_8 2 rfl rfl)
theorem dX6_walks_189 : decode cX6_walks 189 = .ok (.iaload, 1) := dk_46 (dk_at dksX6_walks_8 3 rfl rfl)
theorem dX6_walks_190 : decode cX6_walks 190 = .ok (.iconst 1, 1) := dk_4 (dk_at dksX6_walks_8 4 rfl rfl)
theorem dX6_walks_191 : decode cX6_walks 191 = .ok (.iadd, 1) := dk_96 (dk_at dksX6_walks_8 5 rfl rfl)
theorem dX6_walks_192 : decode cX6_walks 192 = .ok (.iastore, 1) := dk_79 (dk_at dksX6_walks_8 6 rfl rfl)
theorem dX6_walks_193 : decode cX6_walks 193 = .ok (.iinc 7 1, 3) := dk_132 7 1 (dk_at dksX6_walks_8 7 rfl rfl)
theorem dX6_walks_196 : decode cX6_walks 196 = .ok (.goto (-27), 3) := dk_167 255 229 (dk_at dksX6_walks_8 10 rfl rfl)
theorem dX6_walks_199 : decode cX6_walks 199 = .ok (.iload 5, 2) := dk_21 5 (dk_at dksX6_walks_8 13 rfl rfl)
theorem dX6_walks_201 : decode cX6_walks 201 = .ok (.ireturn, 1) := dk_172 (dk_at dksX6_walks_8 15 rfl rfl)
abbrev cX6_undo : ByteArray := prog_23_method_47_code
def yX6_undo : MethodName := ⟨RX6, "undo", "()I"⟩
def dkwX6_undo_6 : List UInt8 := [96, 27, 79, 132, 2, 1, 167, 255, 219, 27, 172]
abbrev dktX6_undo_6 : List UInt8 := dkwX6_undo_6 ++ []
def dkwX6_undo_5 : List UInt8 := [162, 0, 33, 42, 28, 5, 182, 0, 212, 27, 164, 0, 17, 42, 180, 0, 7, 16, 68, 6, 28, 104, 96, 5]
abbrev dktX6_undo_5 : List UInt8 := dkwX6_undo_5 ++ dktX6_undo_6
def dkwX6_undo_4 : List UInt8 := [100, 79, 132, 2, 1, 167, 255, 213, 42, 180, 0, 7, 7, 27, 79, 3, 61, 28, 42, 180, 0, 7, 6, 46]
abbrev dktX6_undo_4 : List UInt8 := dkwX6_undo_4 ++ dktX6_undo_5
def dkwX6_undo_3 : List UInt8 := [16, 68, 6, 28, 104, 96, 4, 96, 92, 46, 42, 28, 4, 182, 0, 212, 158, 0, 7, 4, 167, 0, 4, 3]
abbrev dktX6_undo_3 : List UInt8 := dkwX6_undo_3 ++ dktX6_undo_4
def dkwX6_undo_2 : List UInt8 := [42, 27, 8, 182, 0, 196, 96, 79, 3, 61, 28, 42, 27, 6, 182, 0, 196, 162, 0, 39, 42, 180, 0, 7]
abbrev dktX6_undo_2 : List UInt8 := dkwX6_undo_2 ++ dktX6_undo_3
def dkwX6_undo_1 : List UInt8 := [182, 0, 196, 4, 160, 0, 5, 2, 172, 42, 180, 0, 7, 16, 12, 42, 27, 5, 182, 0, 196, 96, 92, 46]
abbrev dktX6_undo_1 : List UInt8 := dkwX6_undo_1 ++ dktX6_undo_2
def dkwX6_undo_0 : List UInt8 := [42, 3, 181, 0, 41, 42, 180, 0, 7, 7, 46, 4, 100, 60, 27, 155, 0, 14, 42, 27, 16, 6]
abbrev dktX6_undo_0 : List UInt8 := dkwX6_undo_0 ++ dktX6_undo_1
theorem dksX6_undo_0 : cX6_undo.data.toList.drop 0 = dktX6_undo_0 := by decide +kernel
theorem dksX6_undo_1 : cX6_undo.data.toList.drop 22 = dktX6_undo_1 := dk_seg dksX6_undo_0 22 rfl rfl
theorem dksX6_undo_2 : cX6_undo.data.toList.drop 46 = dktX6_undo_2 := dk_seg dksX6_undo_1 24 rfl rfl
theorem dksX6_undo_3 : cX6_undo.data.toList.drop 70 = dktX6_undo_3 := dk_seg dksX6_undo_2 24 rfl rfl
theorem dksX6_undo_4 : cX6_undo.data.toList.drop 94 = dktX6_undo_4 := dk_seg dksX6_undo_3 24 rfl rfl
theorem dksX6_undo_5 : cX6_undo.data.toList.drop 118 = dktX6_undo_5 := dk_seg dksX6_undo_4 24 rfl rfl
theorem dksX6_undo_6 : cX6_undo.data.toList.drop 142 = dktX6_undo_6 := dk_seg dksX6_undo_5 24 rfl rfl
theorem dX6_undo_0 : decode cX6_undo 0 = .ok (.aload_n 0, 1) := dk_42 (dk_at dksX6_undo_0 0 rfl rfl)
theorem dX6_undo_1 : decode cX6_undo 1 = .ok (.iconst 0, 1) := dk_3 (dk_at dksX6_undo_0 1 rfl rfl)
theorem dX6_undo_2 : decode cX6_undo 2 = .ok (.putfield 41, 3) := dk_181 0 41 (dk_at dksX6_undo_0 2 rfl rfl)
theorem dX6_undo_5 : decode cX6_undo 5 = .ok (.aload_n 0, 1) := dk_42 (dk_at dksX6_undo_0 5 rfl rfl)
theorem dX6_undo_6 : decode cX6_undo 6 = .ok (.getfield 7, 3) := dk_180 0 7 (dk_at dksX6_undo_0 6 rfl rfl)
theorem dX6_undo_9 : decode cX6_undo 9 = .ok (.iconst 4, 1) := dk_7 (dk_at dksX6_undo_0 9 rfl rfl)
theorem dX6_undo_10 : decode cX6_undo 10 = .ok (.iaload, 1) := dk_46 (dk_at dksX6_undo_0 10 rfl rfl)
theorem dX6_undo_11 : decode cX6_undo 11 = .ok (.iconst 1, 1) := dk_4 (dk_at dksX6_undo_0 11 rfl rfl)
theorem dX6_undo_12 : decode cX6_undo 12 = .ok (.isub, 1) := dk_100 (dk_at dksX6_undo_0 12 rfl rfl)
theorem dX6_undo_13 : decode cX6_undo 13 = .ok (.istore_n 1, 1) := dk_60 (dk_at dksX6_undo_0 13 rfl rfl)
theorem dX6_undo_14 : decode cX6_undo 14 = .ok (.iload_n 1, 1) := dk_27 (dk_at dksX6_undo_0 14 rfl rfl)
theorem dX6_undo_15 : decode cX6_undo 15 = .ok (.ifCond .lt 14, 3) := dk_155 0 14 (dk_at dksX6_undo_0 15 rfl rfl)
theorem dX6_undo_18 : decode cX6_undo 18 = .ok (.aload_n 0, 1) := dk_42 (dk_at dksX6_undo_0 18 rfl rfl)
theorem dX6_undo_19 : decode cX6_undo 19 = .ok (.iload_n 1, 1) := dk_27 (dk_at dksX6_undo_0 19 rfl rfl)
theorem dX6_undo_20 : decode cX6_undo 20 = .ok (.bipush 6, 2) := dk_16 6 (dk_at dksX6_undo_0 20 rfl rfl)
theorem dX6_undo_22 : decode cX6_undo 22 = .ok (.invokevirtual 196, 3) := dk_182 0 196 (dk_at dksX6_undo_1 0 rfl rfl)
theorem dX6_undo_25 : decode cX6_undo 25 = .ok (.iconst 1, 1) := dk_4 (dk_at dksX6_undo_1 3 rfl rfl)
theorem dX6_undo_26 : decode cX6_undo 26 = .ok (.if_icmp .ne 5, 3) := dk_160 0 5 (dk_at dksX6_undo_1 4 rfl rfl)
theorem dX6_undo_29 : decode cX6_undo 29 = .ok (.iconst (-1), 1) := dk_2 (dk_at dksX6_undo_1 7 rfl rfl)
theorem dX6_undo_30 : decode cX6_undo 30 = .ok (.ireturn, 1) := dk_172 (dk_at dksX6_undo_1 8 rfl rfl)
theorem dX6_undo_31 : decode cX6_undo 31 = .ok (.aload_n 0, 1) := dk_42 (dk_at dksX6_undo_1 9 rfl rfl)
theorem dX6_undo_32 : decode cX6_undo 32 = .ok (.getfield 7, 3) := dk_180 0 7 (dk_at dksX6_undo_1 10 rfl rfl)
theorem dX6_undo_35 : decode cX6_undo 35 = .ok (.bipush 12, 2) := dk_16 12 (dk_at dksX6_undo_1 13 rfl rfl)
theorem dX6_undo_37 : decode cX6_undo 37 = .ok (.aload_n 0, 1) := dk_42 (dk_at dksX6_undo_1 15 rfl rfl)
theorem dX6_undo_38 : decode cX6_undo 38 = .ok (.iload_n 1, 1) := dk_27 (dk_at dksX6_undo_1 16 rfl rfl)
theorem dX6_undo_39 : decode cX6_undo 39 = .ok (.iconst 2, 1) := dk_5 (dk_at dksX6_undo_1 17 rfl rfl)
theorem dX6_undo_40 : decode cX6_undo 40 = .ok (.invokevirtual 196, 3) := dk_182 0 196 (dk_at dksX6_undo_1 18 rfl rfl)
theorem dX6_undo_43 : decode cX6_undo 43 = .ok (.iadd, 1) := dk_96 (dk_at dksX6_undo_1 21 rfl rfl)
theorem dX6_undo_44 : decode cX6_undo 44 = .ok (.dup2, 1) := dk_92 (dk_at dksX6_undo_1 22 rfl rfl)
theorem dX6_undo_45 : decode cX6_undo 45 = .ok (.iaload, 1) := dk_46 (dk_at dksX6_undo_1 23 rfl rfl)
theorem dX6_undo_46 : decode cX6_undo 46 = .ok (.aload_n 0, 1) := dk_42 (dk_at dksX6_undo_2 0 rfl rfl)
theorem dX6_undo_47 : decode cX6_undo 47 = .ok (.iload_n 1, 1) := dk_27 (dk_at dksX6_undo_2 1 rfl rfl)
theorem dX6_undo_48 : decode cX6_undo 48 = .ok (.iconst 5, 1) := dk_8 (dk_at dksX6_undo_2 2 rfl rfl)
theorem dX6_undo_49 : decode cX6_undo 49 = .ok (.invokevirtual 196, 3) := dk_182 0 196 (dk_at dksX6_undo_2 3 rfl rfl)
theorem dX6_undo_52 : decode cX6_undo 52 = .ok (.iadd, 1) := dk_96 (dk_at dksX6_undo_2 6 rfl rfl)
theorem dX6_undo_53 : decode cX6_undo 53 = .ok (.iastore, 1) := dk_79 (dk_at dksX6_undo_2 7 rfl rfl)
theorem dX6_undo_54 : decode cX6_undo 54 = .ok (.iconst 0, 1) := dk_3 (dk_at dksX6_undo_2 8 rfl rfl)
theorem dX6_undo_55 : decode cX6_undo 55 = .ok (.istore_n 2, 1) := dk_61 (dk_at dksX6_undo_2 9 rfl rfl)
theorem dX6_undo_56 : decode cX6_undo 56 = .ok (.iload_n 2, 1) := dk_28 (dk_at dksX6_undo_2 10 rfl rfl)
theorem dX6_undo_57 : decode cX6_undo 57 = .ok (.aload_n 0, 1) := dk_42 (dk_at dksX6_undo_2 11 rfl rfl)
theorem dX6_undo_58 : decode cX6_undo 58 = .ok (.iload_n 1, 1) := dk_27 (dk_at dksX6_undo_2 12 rfl rfl)
theorem dX6_undo_59 : decode cX6_undo 59 = .ok (.iconst 3, 1) := dk_6 (dk_at dksX6_undo_2 13 rfl rfl)
theorem dX6_undo_60 : decode cX6_undo 60 = .ok (.invokevirtual 196, 3) := dk_182 0 196 (dk_at dksX6_undo_2 14 rfl rfl)
theorem dX6_undo_63 : decode cX6_undo 63 = .ok (.if_icmp .ge 39, 3) := dk_162 0 39 (dk_at dksX6_undo_2 17 rfl rfl)
theorem dX6_undo_66 : decode cX6_undo 66 = .ok (.aload_n 0, 1) := dk_42 (dk_at dksX6_undo_2 20 rfl rfl)
theorem dX6_undo_67 : decode cX6_undo 67 = .ok (.getfield 7, 3) := dk_180 0 7 (dk_at dksX6_undo_2 21 rfl rfl)
theorem dX6_undo_70 : decode cX6_undo 70 = .ok (.bipush 68, 2) := dk_16 68 (dk_at dksX6_undo_3 0 rfl rfl)
theorem dX6_undo_72 : decode cX6_undo 72 = .ok (.iconst 3, 1) := dk_6 (dk_at dksX6_undo_3 2 rfl rfl)
theorem dX6_undo_73 : decode cX6_undo 73 = .ok (.iload_n 2, 1) := dk_28 (dk_at dksX6_undo_3 3 rfl rfl)
theorem dX6_undo_74 : decode cX6_undo 74 = .ok (.imul, 1) := dk_104 (dk_at dksX6_undo_3 4 rfl rfl)
theorem dX6_undo_75 : decode cX6_undo 75 = .ok (.iadd, 1) := dk_96 (dk_at dksX6_undo_3 5 rfl rfl)
theorem dX6_undo_76 : decode cX6_undo 76 = .ok (.iconst 1, 1) := dk_4 (dk_at dksX6_undo_3 6 rfl rfl)
theorem dX6_undo_77 : decode cX6_undo 77 = .ok (.iadd, 1) := dk_96 (dk_at dksX6_undo_3 7 rfl rfl)
theorem dX6_undo_78 : decode cX6_undo 78 = .ok (.dup2, 1) := dk_92 (dk_at dksX6_undo_3 8 rfl rfl)
theorem dX6_undo_79 : decode cX6_undo 79 = .ok (.iaload, 1) := dk_46 (dk_at dksX6_undo_3 9 rfl rfl)
theorem dX6_undo_80 : decode cX6_undo 80 = .ok (.aload_n 0, 1) := dk_42 (dk_at dksX6_undo_3 10 rfl rfl)
theorem dX6_undo_81 : decode cX6_undo 81 = .ok (.iload_n 2, 1) := dk_28 (dk_at dksX6_undo_3 11 rfl rfl)
theorem dX6_undo_82 : decode cX6_undo 82 = .ok (.iconst 1, 1) := dk_4 (dk_at dksX6_undo_3 12 rfl rfl)
theorem dX6_undo_83 : decode cX6_undo 83 = .ok (.invokevirtual 212, 3) := dk_182 0 212 (dk_at dksX6_undo_3 13 rfl rfl)
theorem dX6_undo_86 : decode cX6_undo 86 = .ok (.ifCond .le 7, 3) := dk_158 0 7 (dk_at dksX6_undo_3 16 rfl rfl)
theorem dX6_undo_89 : decode cX6_undo 89 = .ok (.iconst 1, 1) := dk_4 (dk_at dksX6_undo_3 19 rfl rfl)
theorem dX6_undo_90 : decode cX6_undo 90 = .ok (.goto 4, 3) := dk_167 0 4 (dk_at dksX6_undo_3 20 rfl rfl)
theorem dX6_undo_93 : decode cX6_undo 93 = .ok (.iconst 0, 1) := dk_3 (dk_at dksX6_undo_3 23 rfl rfl)
theorem dX6_undo_94 : decode cX6_undo 94 = .ok (.isub, 1) := dk_100 (dk_at dksX6_undo_4 0 rfl rfl)
theorem dX6_undo_95 : decode cX6_undo 95 = .ok (.iastore, 1) := dk_79 (dk_at dksX6_undo_4 1 rfl rfl)
theorem dX6_undo_96 : decode cX6_undo 96 = .ok (.iinc 2 1, 3) := dk_132 2 1 (dk_at dksX6_undo_4 2 rfl rfl)
theorem dX6_undo_99 : decode cX6_undo 99 = .ok (.goto (-43), 3) := dk_167 255 213 (dk_at dksX6_undo_4 5 rfl rfl)
theorem dX6_undo_102 : decode cX6_undo 102 = .ok (.aload_n 0, 1) := dk_42 (dk_at dksX6_undo_4 8 rfl rfl)
theorem dX6_undo_103 : decode cX6_undo 103 = .ok (.getfield 7, 3) := dk_180 0 7 (dk_at dksX6_undo_4 9 rfl rfl)
theorem dX6_undo_106 : decode cX6_undo 106 = .ok (.iconst 4, 1) := dk_7 (dk_at dksX6_undo_4 12 rfl rfl)
theorem dX6_undo_107 : decode cX6_undo 107 = .ok (.iload_n 1, 1) := dk_27 (dk_at dksX6_undo_4 13 rfl rfl)
theorem dX6_undo_108 : decode cX6_undo 108 = .ok (.iastore, 1) := dk_79 (dk_at dksX6_undo_4 14 rfl rfl)
theorem dX6_undo_109 : decode cX6_undo 109 = .ok (.iconst 0, 1) := dk_3 (dk_at dksX6_undo_4 15 rfl rfl)
theorem dX6_undo_110 : decode cX6_undo 110 = .ok (.istore_n 2, 1) := dk_61 (dk_at dksX6_undo_4 16 rfl rfl)
theorem dX6_undo_111 : decode cX6_undo 111 = .ok (.iload_n 2, 1) := dk_28 (dk_at dksX6_undo_4 17 rfl rfl)
theorem dX6_undo_112 : decode cX6_undo 112 = .ok (.aload_n 0, 1) := dk_42 (dk_at dksX6_undo_4 18 rfl rfl)
theorem dX6_undo_113 : decode cX6_undo 113 = .ok (.getfield 7, 3) := dk_180 0 7 (dk_at dksX6_undo_4 19 rfl rfl)
theorem dX6_undo_116 : decode cX6_undo 116 = .ok (.iconst 3, 1) := dk_6 (dk_at dksX6_undo_4 22 rfl rfl)
theorem dX6_undo_117 : decode cX6_undo 117 = .ok (.iaload, 1) := dk_46 (dk_at dksX6_undo_4 23 rfl rfl)
theorem dX6_undo_118 : decode cX6_undo 118 = .ok (.if_icmp .ge 33, 3) := dk_162 0 33 (dk_at dksX6_undo_5 0 rfl rfl)
theorem dX6_undo_121 : decode cX6_undo 121 = .ok (.aload_n 0, 1) := dk_42 (dk_at dksX6_undo_5 3 rfl rfl)
theorem dX6_undo_122 : decode cX6_undo 122 = .ok (.iload_n 2, 1) := dk_28 (dk_at dksX6_undo_5 4 rfl rfl)
theorem dX6_undo_123 : decode cX6_undo 123 = .ok (.iconst 2, 1) := dk_5 (dk_at dksX6_undo_5 5 rfl rfl)
theorem dX6_undo_124 : decode cX6_undo 124 = .ok (.invokevirtual 212, 3) := dk_182 0 212 (dk_at dksX6_undo_5 6 rfl rfl)
theorem dX6_undo_127 : decode cX6_undo 127 = .ok (.iload_n 1, 1) := dk_27 (dk_at dksX6_undo_5 9 rfl rfl)
theorem dX6_undo_128 : decode cX6_undo 128 = .ok (.if_icmp .le 17, 3) := dk_164 0 17 (dk_at dksX6_undo_5 10 rfl rfl)
theorem dX6_undo_131 : decode cX6_undo 131 = .ok (.aload_n 0, 1) := dk_42 (dk_at dksX6_undo_5 13 rfl rfl)
theorem dX6_undo_132 : decode cX6_undo 132 = .ok (.getfield 7, 3) := dk_180 0 7 (dk_at dksX6_undo_5 14 rfl rfl)
theorem dX6_undo_135 : decode cX6_undo 135 = .ok (.bipush 68, 2) := dk_16 68 (dk_at dksX6_undo_5 17 rfl rfl)
theorem dX6_undo_137 : decode cX6_undo 137 = .ok (.iconst 3, 1) := dk_6 (dk_at dksX6_undo_5 19 rfl rfl)
theorem dX6_undo_138 : decode cX6_undo 138 = .ok (.iload_n 2, 1) := dk_28 (dk_at dksX6_undo_5 20 rfl rfl)
theorem dX6_undo_139 : decode cX6_undo 139 = .ok (.imul, 1) := dk_104 (dk_at dksX6_undo_5 21 rfl rfl)
theorem dX6_undo_140 : decode cX6_undo 140 = .ok (.iadd, 1) := dk_96 (dk_at dksX6_undo_5 22 rfl rfl)
theorem dX6_undo_141 : decode cX6_undo 141 = .ok (.iconst 2, 1) := dk_5 (dk_at dksX6_undo_5 23 rfl rfl)
theorem dX6_undo_142 : decode cX6_undo 142 = .ok (.iadd, 1) := dk_96 (dk_at dksX6_undo_6 0 rfl rfl)
theorem dX6_undo_143 : decode cX6_undo 143 = .ok (.iload_n 1, 1) := dk_27 (dk_at dksX6_undo_6 1 rfl rfl)
theorem dX6_undo_144 : decode cX6_undo 144 = .ok (.iastore, 1) := dk_79 (dk_at dksX6_undo_6 2 rfl rfl)
theorem dX6_undo_145 : decode cX6_undo 145 = .ok (.iinc 2 1, 3) := dk_132 2 1 (dk_at dksX6_undo_6 3 rfl rfl)
theorem dX6_undo_148 : decode cX6_undo 148 = .ok (.goto (-37), 3) := dk_167 255 219 (dk_at dksX6_undo_6 6 rfl rfl)
theorem dX6_undo_151 : decode cX6_undo 151 = .ok (.iload_n 1, 1) := dk_27 (dk_at dksX6_undo_6 9 rfl rfl)
theorem dX6_undo_152 : decode cX6_undo 152 = .ok (.ireturn, 1) := dk_172 (dk_at dksX6_undo_6 10 rfl rfl)
abbrev cX6_days : ByteArray := prog_23_method_48_code
def yX6_days : MethodName := ⟨RX6, "days", "(I)I"⟩
def dkwX6_days_1 : List UInt8 := [158, 0, 5, 3, 172, 42, 180, 0, 7, 16, 8, 92, 46, 27, 96, 79, 42, 180, 0, 7, 16, 8, 46, 172]
abbrev dktX6_days_1 : List UInt8 := dkwX6_days_1 ++ []
def dkwX6_days_0 : List UInt8 := [42, 27, 4, 16, 99, 184, 0, 44, 154, 0, 7, 4, 167, 0, 4, 3, 181, 0, 41, 42, 180, 0, 41]
abbrev dktX6_days_0 : List UInt8 := dkwX6_days_0 ++ dktX6_days_1
theorem dksX6_days_0 : cX6_days.data.toList.drop 0 = dktX6_days_0 := by decide +kernel
theorem dksX6_days_1 : cX6_days.data.toList.drop 23 = dktX6_days_1 := dk_seg dksX6_days_0 23 rfl rfl
theorem dX6_days_0 : decode cX6_days 0 = .ok (.aload_n 0, 1) := dk_42 (dk_at dksX6_days_0 0 rfl rfl)
theorem dX6_days_1 : decode cX6_days 1 = .ok (.iload_n 1, 1) := dk_27 (dk_at dksX6_days_0 1 rfl rfl)
theorem dX6_days_2 : decode cX6_days 2 = .ok (.iconst 1, 1) := dk_4 (dk_at dksX6_days_0 2 rfl rfl)
theorem dX6_days_3 : decode cX6_days 3 = .ok (.bipush 99, 2) := dk_16 99 (dk_at dksX6_days_0 3 rfl rfl)
theorem dX6_days_5 : decode cX6_days 5 = .ok (.invokestatic 44, 3) := dk_184 0 44 (dk_at dksX6_days_0 5 rfl rfl)
theorem dX6_days_8 : decode cX6_days 8 = .ok (.ifCond .ne 7, 3) := dk_154 0 7 (dk_at dksX6_days_0 8 rfl rfl)
theorem dX6_days_11 : decode cX6_days 11 = .ok (.iconst 1, 1) := dk_4 (dk_at dksX6_days_0 11 rfl rfl)
theorem dX6_days_12 : decode cX6_days 12 = .ok (.goto 4, 3) := dk_167 0 4 (dk_at dksX6_days_0 12 rfl rfl)
theorem dX6_days_15 : decode cX6_days 15 = .ok (.iconst 0, 1) := dk_3 (dk_at dksX6_days_0 15 rfl rfl)
theorem dX6_days_16 : decode cX6_days 16 = .ok (.putfield 41, 3) := dk_181 0 41 (dk_at dksX6_days_0 16 rfl rfl)
theorem dX6_days_19 : decode cX6_days 19 = .ok (.aload_n 0, 1) := dk_42 (dk_at dksX6_days_0 19 rfl rfl)
theorem dX6_days_20 : decode cX6_days 20 = .ok (.getfield 41, 3) := dk_180 0 41 (dk_at dksX6_days_0 20 rfl rfl)
theorem dX6_days_23 : decode cX6_days 23 = .ok (.ifCond .le 5, 3) := dk_158 0 5 (dk_at dksX6_days_1 0 rfl rfl)
theorem dX6_days_26 : decode cX6_days 26 = .ok (.iconst 0, 1) := dk_3 (dk_at dksX6_days_1 3 rfl rfl)
theorem dX6_days_27 : decode cX6_days 27 = .ok (.ireturn, 1) := dk_172 (dk_at dksX6_days_1 4 rfl rfl)
theorem dX6_days_28 : decode cX6_days 28 = .ok (.aload_n 0, 1) := dk_42 (dk_at dksX6_days_1 5 rfl rfl)
theorem dX6_days_29 : decode cX6_days 29 = .ok (.getfield 7, 3) := dk_180 0 7 (dk_at dksX6_days_1 6 rfl rfl)
theorem dX6_days_32 : decode cX6_days 32 = .ok (.bipush 8, 2) := dk_16 8 (dk_at dksX6_days_1 9 rfl rfl)
theorem dX6_days_34 : decode cX6_days 34 = .ok (.dup2, 1) := dk_92 (dk_at dksX6_days_1 11 rfl rfl)
theorem dX6_days_35 : decode cX6_days 35 = .ok (.iaload, 1) := dk_46 (dk_at dksX6_days_1 12 rfl rfl)
theorem dX6_days_36 : decode cX6_days 36 = .ok (.iload_n 1, 1) := dk_27 (dk_at dksX6_days_1 13 rfl rfl)
theorem dX6_days_37 : decode cX6_days 37 = .ok (.iadd, 1) := dk_96 (dk_at dksX6_days_1 14 rfl rfl)
theorem dX6_days_38 : decode cX6_days 38 = .ok (.iastore, 1) := dk_79 (dk_at dksX6_days_1 15 rfl rfl)
theorem dX6_days_39 : decode cX6_days 39 = .ok (.aload_n 0, 1) := dk_42 (dk_at dksX6_days_1 16 rfl rfl)
theorem dX6_days_40 : decode cX6_days 40 = .ok (.getfield 7, 3) := dk_180 0 7 (dk_at dksX6_days_1 17 rfl rfl)
theorem dX6_days_43 : decode cX6_days 43 = .ok (.bipush 8, 2) := dk_16 8 (dk_at dksX6_days_1 20 rfl rfl)
theorem dX6_days_45 : decode cX6_days 45 = .ok (.iaload, 1) := dk_46 (dk_at dksX6_days_1 22 rfl rfl)
theorem dX6_days_46 : decode cX6_days 46 = .ok (.ireturn, 1) := dk_172 (dk_at dksX6_days_1 23 rfl rfl)
abbrev cX6_pass : ByteArray := prog_23_method_49_code
def yX6_pass : MethodName := ⟨RX6, "pass", "(III)I"⟩
def dkwX6_pass_6 : List UInt8 := [46, 21, 4, 96, 79, 21, 4, 172]
abbrev dktX6_pass_6 : List UInt8 := dkwX6_pass_6 ++ []
def dkwX6_pass_5 : List UInt8 := [172, 42, 180, 0, 7, 16, 12, 27, 96, 92, 46, 21, 4, 100, 79, 42, 180, 0, 7, 16, 12, 28, 96, 92]
abbrev dktX6_pass_5 : List UInt8 := dkwX6_pass_5 ++ dktX6_pass_6
def dkwX6_pass_4 : List UInt8 := [21, 4, 96, 18, 99, 164, 0, 7, 6, 167, 0, 4, 3, 181, 0, 41, 42, 180, 0, 41, 158, 0, 5, 3]
abbrev dktX6_pass_4 : List UInt8 := dkwX6_pass_4 ++ dktX6_pass_5
def dkwX6_pass_3 : List UInt8 := [167, 0, 12, 42, 180, 0, 7, 16, 12, 27, 96, 46, 54, 4, 42, 42, 180, 0, 7, 16, 12, 28, 96, 46]
abbrev dktX6_pass_3 : List UInt8 := dkwX6_pass_3 ++ dktX6_pass_4
def dkwX6_pass_2 : List UInt8 := [180, 0, 41, 158, 0, 5, 3, 172, 29, 42, 180, 0, 7, 16, 12, 27, 96, 46, 162, 0, 7, 29]
abbrev dktX6_pass_2 : List UInt8 := dkwX6_pass_2 ++ dktX6_pass_3
def dkwX6_pass_1 : List UInt8 := [159, 0, 13, 29, 4, 18, 99, 184, 0, 44, 154, 0, 7, 5, 167, 0, 4, 3, 181, 0, 41, 42]
abbrev dktX6_pass_1 : List UInt8 := dkwX6_pass_1 ++ dktX6_pass_2
def dkwX6_pass_0 : List UInt8 := [42, 42, 27, 182, 0, 200, 153, 0, 11, 42, 28, 182, 0, 200, 154, 0, 7, 4, 167, 0, 23, 27, 28]
abbrev dktX6_pass_0 : List UInt8 := dkwX6_pass_0 ++ dktX6_pass_1
theorem dksX6_pass_0 : cX6_pass.data.toList.drop 0 = dktX6_pass_0 := by decide +kernel
theorem dksX6_pass_1 : cX6_pass.data.toList.drop 23 = dktX6_pass_1 := dk_seg dksX6_pass_0 23 rfl rfl
theorem dksX6_pass_2 : cX6_pass.data.toList.drop 45 = dktX6_pass_2 := dk_seg dksX6_pass_1 22 rfl rfl
theorem dksX6_pass_3 : cX6_pass.data.toList.drop 67 = dktX6_pass_3 := dk_seg dksX6_pass_2 22 rfl rfl
theorem dksX6_pass_4 : cX6_pass.data.toList.drop 91 = dktX6_pass_4 := dk_seg dksX6_pass_3 24 rfl rfl
theorem dksX6_pass_5 : cX6_pass.data.toList.drop 115 = dktX6_pass_5 := dk_seg dksX6_pass_4 24 rfl rfl
theorem dksX6_pass_6 : cX6_pass.data.toList.drop 139 = dktX6_pass_6 := dk_seg dksX6_pass_5 24 rfl rfl
theorem dX6_pass_0 : decode cX6_pass 0 = .ok (.aload_n 0, 1) := dk_42 (dk_at dksX6_pass_0 0 rfl rfl)
theorem dX6_pass_1 : decode cX6_pass 1 = .ok (.aload_n 0, 1) := dk_42 (dk_at dksX6_pass_0 1 rfl rfl)
theorem dX6_pass_2 : decode cX6_pass 2 = .ok (.iload_n 1, 1) := dk_27 (dk_at dksX6_pass_0 2 rfl rfl)
theorem dX6_pass_3 : decode cX6_pass 3 = .ok (.invokevirtual 200, 3) := dk_182 0 200 (dk_at dksX6_pass_0 3 rfl rfl)
theorem dX6_pass_6 : decode cX6_pass 6 = .ok (.ifCond .eq 11, 3) := dk_153 0 11 (dk_at dksX6_pass_0 6 rfl rfl)
theorem dX6_pass_9 : decode cX6_pass 9 = .ok (.aload_n 0, 1) := dk_42 (dk_at dksX6_pass_0 9 rfl rfl)
theorem dX6_pass_10 : decode cX6_pass 10 = .ok (.iload_n 2, 1) := dk_28 (dk_at dksX6_pass_0 10 rfl rfl)
theorem dX6_pass_11 : decode cX6_pass 11 = .ok (.invokevirtual 200, 3) := dk_182 0 200 (dk_at dksX6_pass_0 11 rfl rfl)
theorem dX6_pass_14 : decode cX6_pass 14 = .ok (.ifCond .ne 7, 3) := dk_154 0 7 (dk_at dksX6_pass_0 14 rfl rfl)
theorem dX6_pass_17 : decode cX6_pass 17 = .ok (.iconst 1, 1) := dk_4 (dk_at dksX6_pass_0 17 rfl rfl)
theorem dX6_pass_18 : decode cX6_pass 18 = .ok (.goto 23, 3) := dk_167 0 23 (dk_at dksX6_pass_0 18 rfl rfl)
theorem dX6_pass_21 : decode cX6_pass 21 = .ok (.iload_n 1, 1) := dk_27 (dk_at dksX6_pass_0 21 rfl rfl)
theorem dX6_pass_22 : decode cX6_pass 22 = .ok (.iload_n 2, 1) := dk_28 (dk_at dksX6_pass_0 22 rfl rfl)
theorem dX6_pass_23 : decode cX6_pass 23 = .ok (.if_icmp .eq 13, 3) := dk_159 0 13 (dk_at dksX6_pass_1 0 rfl rfl)
theorem dX6_pass_26 : decode cX6_pass 26 = .ok (.iload_n 3, 1) := dk_29 (dk_at dksX6_pass_1 3 rfl rfl)
theorem dX6_pass_27 : decode cX6_pass 27 = .ok (.iconst 1, 1) := dk_4 (dk_at dksX6_pass_1 4 rfl rfl)
theorem dX6_pass_28 : decode cX6_pass 28 = .ok (.ldc 99, 2) := dk_18 99 (dk_at dksX6_pass_1 5 rfl rfl)
theorem dX6_pass_30 : decode cX6_pass 30 = .ok (.invokestatic 44, 3) := dk_184 0 44 (dk_at dksX6_pass_1 7 rfl rfl)
theorem dX6_pass_33 : decode cX6_pass 33 = .ok (.ifCond .ne 7, 3) := dk_154 0 7 (dk_at dksX6_pass_1 10 rfl rfl)
theorem dX6_pass_36 : decode cX6_pass 36 = .ok (.iconst 2, 1) := dk_5 (dk_at dksX6_pass_1 13 rfl rfl)
theorem dX6_pass_37 : decode cX6_pass 37 = .ok (.goto 4, 3) := dk_167 0 4 (dk_at dksX6_pass_1 14 rfl rfl)
theorem dX6_pass_40 : decode cX6_pass 40 = .ok (.iconst 0, 1) := dk_3 (dk_at dksX6_pass_1 17 rfl rfl)
theorem dX6_pass_41 : decode cX6_pass 41 = .ok (.putfield 41, 3) := dk_181 0 41 (dk_at dksX6_pass_1 18 rfl rfl)
theorem dX6_pass_44 : decode cX6_pass 44 = .ok (.aload_n 0, 1) := dk_42 (dk_at dksX6_pass_1 21 rfl rfl)
theorem dX6_pass_45 : decode cX6_pass 45 = .ok (.getfield 41, 3) := dk_180 0 41 (dk_at dksX6_pass_2 0 rfl rfl)
theorem dX6_pass_48 : decode cX6_pass 48 = .ok (.ifCond .le 5, 3) := dk_158 0 5 (dk_at dksX6_pass_2 3 rfl rfl)
theorem dX6_pass_51 : decode cX6_pass 51 = .ok (.iconst 0, 1) := dk_3 (dk_at dksX6_pass_2 6 rfl rfl)
theorem dX6_pass_52 : decode cX6_pass 52 = .ok (.ireturn, 1) := dk_172 (dk_at dksX6_pass_2 7 rfl rfl)
theorem dX6_pass_53 : decode cX6_pass 53 = .ok (.iload_n 3, 1) := dk_29 (dk_at dksX6_pass_2 8 rfl rfl)
theorem dX6_pass_54 : decode cX6_pass 54 = .ok (.aload_n 0, 1) := dk_42 (dk_at dksX6_pass_2 9 rfl rfl)
theorem dX6_pass_55 : decode cX6_pass 55 = .ok (.getfield 7, 3) := dk_180 0 7 (dk_at dksX6_pass_2 10 rfl rfl)
theorem dX6_pass_58 : decode cX6_pass 58 = .ok (.bipush 12, 2) := dk_16 12 (dk_at dksX6_pass_2 13 rfl rfl)
theorem dX6_pass_60 : decode cX6_pass 60 = .ok (.iload_n 1, 1) := dk_27 (dk_at dksX6_pass_2 15 rfl rfl)
theorem dX6_pass_61 : decode cX6_pass 61 = .ok (.iadd, 1) := dk_96 (dk_at dksX6_pass_2 16 rfl rfl)
theorem dX6_pass_62 : decode cX6_pass 62 = .ok (.iaload, 1) := dk_46 (dk_at dksX6_pass_2 17 rfl rfl)
theorem dX6_pass_63 : decode cX6_pass 63 = .ok (.if_icmp .ge 7, 3) := dk_162 0 7 (dk_at dksX6_pass_2 18 rfl rfl)
theorem dX6_pass_66 : decode cX6_pass 66 = .ok (.iload_n 3, 1) := dk_29 (dk_at dksX6_pass_2 21 rfl rfl)
theorem dX6_pass_67 : decode cX6_pass 67 = .ok (.goto 12, 3) := dk_167 0 12 (dk_at dksX6_pass_3 0 rfl rfl)
theorem dX6_pass_70 : decode cX6_pass 70 = .ok (.aload_n 0, 1) := dk_42 (dk_at dksX6_pass_3 3 rfl rfl)
theorem dX6_pass_71 : decode cX6_pass 71 = .ok (.getfield 7, 3) := dk_180 0 7 (dk_at dksX6_pass_3 4 rfl rfl)
theorem dX6_pass_74 : decode cX6_pass 74 = .ok (.bipush 12, 2) := dk_16 12 (dk_at dksX6_pass_3 7 rfl rfl)
theorem dX6_pass_76 : decode cX6_pass 76 = .ok (.iload_n 1, 1) := dk_27 (dk_at dksX6_pass_3 9 rfl rfl)
theorem dX6_pass_77 : decode cX6_pass 77 = .ok (.iadd, 1) := dk_96 (dk_at dksX6_pass_3 10 rfl rfl)
theorem dX6_pass_78 : decode cX6_pass 78 = .ok (.iaload, 1) := dk_46 (dk_at dksX6_pass_3 11 rfl rfl)
theorem dX6_pass_79 : decode cX6_pass 79 = .ok (.istore 4, 2) := dk_54 4 (dk_at dksX6_pass_3 12 rfl rfl)
theorem dX6_pass_81 : decode cX6_pass 81 = .ok (.aload_n 0, 1) := dk_42 (dk_at dksX6_pass_3 14 rfl rfl)
theorem dX6_pass_82 : decode cX6_pass 82 = .ok (.aload_n 0, 1) := dk_42 (dk_at dksX6_pass_3 15 rfl rfl)
theorem dX6_pass_83 : decode cX6_pass 83 = .ok (.getfield 7, 3) := dk_180 0 7 (dk_at dksX6_pass_3 16 rfl rfl)
theorem dX6_pass_86 : decode cX6_pass 86 = .ok (.bipush 12, 2) := dk_16 12 (dk_at dksX6_pass_3 19 rfl rfl)
theorem dX6_pass_88 : decode cX6_pass 88 = .ok (.iload_n 2, 1) := dk_28 (dk_at dksX6_pass_3 21 rfl rfl)
theorem dX6_pass_89 : decode cX6_pass 89 = .ok (.iadd, 1) := dk_96 (dk_at dksX6_pass_3 22 rfl rfl)
theorem dX6_pass_90 : decode cX6_pass 90 = .ok (.iaload, 1) := dk_46 (dk_at dksX6_pass_3 23 rfl rfl)
theorem dX6_pass_91 : decode cX6_pass 91 = .ok (.iload 4, 2) := dk_21 4 (dk_at dksX6_pass_4 0 rfl rfl)
theorem dX6_pass_93 : decode cX6_pass 93 = .ok (.iadd, 1) := dk_96 (dk_at dksX6_pass_4 2 rfl rfl)
theorem dX6_pass_94 : decode cX6_pass 94 = .ok (.ldc 99, 2) := dk_18 99 (dk_at dksX6_pass_4 3 rfl rfl)
theorem dX6_pass_96 : decode cX6_pass 96 = .ok (.if_icmp .le 7, 3) := dk_164 0 7 (dk_at dksX6_pass_4 5 rfl rfl)
theorem dX6_pass_99 : decode cX6_pass 99 = .ok (.iconst 3, 1) := dk_6 (dk_at dksX6_pass_4 8 rfl rfl)
theorem dX6_pass_100 : decode cX6_pass 100 = .ok (.goto 4, 3) := dk_167 0 4 (dk_at dksX6_pass_4 9 rfl rfl)
theorem dX6_pass_103 : decode cX6_pass 103 = .ok (.iconst 0, 1) := dk_3 (dk_at dksX6_pass_4 12 rfl rfl)
theorem dX6_pass_104 : decode cX6_pass 104 = .ok (.putfield 41, 3) := dk_181 0 41 (dk_at dksX6_pass_4 13 rfl rfl)
theorem dX6_pass_107 : decode cX6_pass 107 = .ok (.aload_n 0, 1) := dk_42 (dk_at dksX6_pass_4 16 rfl rfl)
theorem dX6_pass_108 : decode cX6_pass 108 = .ok (.getfield 41, 3) := dk_180 0 41 (dk_at dksX6_pass_4 17 rfl rfl)
theorem dX6_pass_111 : decode cX6_pass 111 = .ok (.ifCond .le 5, 3) := dk_158 0 5 (dk_at dksX6_pass_4 20 rfl rfl)
theorem dX6_pass_114 : decode cX6_pass 114 = .ok (.iconst 0, 1) := dk_3 (dk_at dksX6_pass_4 23 rfl rfl)
theorem dX6_pass_115 : decode cX6_pass 115 = .ok (.ireturn, 1) := dk_172 (dk_at dksX6_pass_5 0 rfl rfl)
theorem dX6_pass_116 : decode cX6_pass 116 = .ok (.aload_n 0, 1) := dk_42 (dk_at dksX6_pass_5 1 rfl rfl)
theorem dX6_pass_117 : decode cX6_pass 117 = .ok (.getfield 7, 3) := dk_180 0 7 (dk_at dksX6_pass_5 2 rfl rfl)
theorem dX6_pass_120 : decode cX6_pass 120 = .ok (.bipush 12, 2) := dk_16 12 (dk_at dksX6_pass_5 5 rfl rfl)
theorem dX6_pass_122 : decode cX6_pass 122 = .ok (.iload_n 1, 1) := dk_27 (dk_at dksX6_pass_5 7 rfl rfl)
theorem dX6_pass_123 : decode cX6_pass 123 = .ok (.iadd, 1) := dk_96 (dk_at dksX6_pass_5 8 rfl rfl)
theorem dX6_pass_124 : decode cX6_pass 124 = .ok (.dup2, 1) := dk_92 (dk_at dksX6_pass_5 9 rfl rfl)
theorem dX6_pass_125 : decode cX6_pass 125 = .ok (.iaload, 1) := dk_46 (dk_at dksX6_pass_5 10 rfl rfl)
theorem dX6_pass_126 : decode cX6_pass 126 = .ok (.iload 4, 2) := dk_21 4 (dk_at dksX6_pass_5 11 rfl rfl)
theorem dX6_pass_128 : decode cX6_pass 128 = .ok (.isub, 1) := dk_100 (dk_at dksX6_pass_5 13 rfl rfl)
theorem dX6_pass_129 : decode cX6_pass 129 = .ok (.iastore, 1) := dk_79 (dk_at dksX6_pass_5 14 rfl rfl)
theorem dX6_pass_130 : decode cX6_pass 130 = .ok (.aload_n 0, 1) := dk_42 (dk_at dksX6_pass_5 15 rfl rfl)
theorem dX6_pass_131 : decode cX6_pass 131 = .ok (.getfield 7, 3) := dk_180 0 7 (dk_at dksX6_pass_5 16 rfl rfl)
theorem dX6_pass_134 : decode cX6_pass 134 = .ok (.bipush 12, 2) := dk_16 12 (dk_at dksX6_pass_5 19 rfl rfl)
theorem dX6_pass_136 : decode cX6_pass 136 = .ok (.iload_n 2, 1) := dk_28 (dk_at dksX6_pass_5 21 rfl rfl)
theorem dX6_pass_137 : decode cX6_pass 137 = .ok (.iadd, 1) := dk_96 (dk_at dksX6_pass_5 22 rfl rfl)
theorem dX6_pass_138 : decode cX6_pass 138 = .ok (.dup2, 1) := dk_92 (dk_at dksX6_pass_5 23 rfl rfl)
theorem dX6_pass_139 : decode cX6_pass 139 = .ok (.iaload, 1) := dk_46 (dk_at dksX6_pass_6 0 rfl rfl)
theorem dX6_pass_140 : decode cX6_pass 140 = .ok (.iload 4, 2) := dk_21 4 (dk_at dksX6_pass_6 1 rfl rfl)
theorem dX6_pass_142 : decode cX6_pass 142 = .ok (.iadd, 1) := dk_96 (dk_at dksX6_pass_6 3 rfl rfl)
theorem dX6_pass_143 : decode cX6_pass 143 = .ok (.iastore, 1) := dk_79 (dk_at dksX6_pass_6 4 rfl rfl)
theorem dX6_pass_144 : decode cX6_pass 144 = .ok (.iload 4, 2) := dk_21 4 (dk_at dksX6_pass_6 5 rfl rfl)
theorem dX6_pass_146 : decode cX6_pass 146 = .ok (.ireturn, 1) := dk_172 (dk_at dksX6_pass_6 7 rfl rfl)
abbrev cX6_marry : ByteArray := prog_23_method_50_code
def yX6_marry : MethodName := ⟨RX6, "marry", "(II)I"⟩
def dkwX6_marry_6 : List UInt8 := [167, 255, 219, 42, 180, 0, 7, 16, 12, 27, 96, 46, 172]
abbrev dktX6_marry_6 : List UInt8 := dkwX6_marry_6 ++ []
def dkwX6_marry_5 : List UInt8 := [182, 0, 203, 28, 160, 0, 17, 42, 180, 0, 7, 16, 20, 7, 29, 104, 96, 5, 96, 27, 79, 132, 3, 1]
abbrev dktX6_marry_5 : List UInt8 := dkwX6_marry_5 ++ dktX6_marry_6
def dkwX6_marry_4 : List UInt8 := [180, 0, 7, 16, 12, 28, 96, 3, 79, 3, 62, 29, 42, 180, 0, 7, 5, 46, 162, 0, 33, 42, 29, 5]
abbrev dktX6_marry_4 : List UInt8 := dkwX6_marry_4 ++ dktX6_marry_5
def dkwX6_marry_3 : List UInt8 := [42, 180, 0, 7, 16, 12, 27, 96, 92, 46, 42, 180, 0, 7, 16, 12, 28, 96, 46, 96, 79, 42]
abbrev dktX6_marry_3 : List UInt8 := dkwX6_marry_3 ++ dktX6_marry_4
def dkwX6_marry_2 : List UInt8 := [46, 96, 18, 99, 164, 0, 7, 6, 167, 0, 4, 3, 181, 0, 41, 42, 180, 0, 41, 158, 0, 5, 3, 172]
abbrev dktX6_marry_2 : List UInt8 := dkwX6_marry_2 ++ dktX6_marry_3
def dkwX6_marry_1 : List UInt8 := [160, 0, 7, 5, 167, 0, 32, 42, 180, 0, 7, 16, 12, 27, 96, 46, 42, 180, 0, 7, 16, 12, 28, 96]
abbrev dktX6_marry_1 : List UInt8 := dkwX6_marry_1 ++ dktX6_marry_2
def dkwX6_marry_0 : List UInt8 := [42, 42, 27, 182, 0, 200, 153, 0, 11, 42, 28, 182, 0, 200, 154, 0, 7, 4, 167, 0, 41, 27, 28]
abbrev dktX6_marry_0 : List UInt8 := dkwX6_marry_0 ++ dktX6_marry_1
theorem dksX6_marry_0 : cX6_marry.data.toList.drop 0 = dktX6_marry_0 := by decide +kernel
theorem dksX6_marry_1 : cX6_marry.data.toList.drop 23 = dktX6_marry_1 := dk_seg dksX6_marry_0 23 rfl rfl
theorem dksX6_marry_2 : cX6_marry.data.toList.drop 47 = dktX6_marry_2 := dk_seg dksX6_marry_1 24 rfl rfl
theorem dksX6_marry_3 : cX6_marry.data.toList.drop 71 = dktX6_marry_3 := dk_seg dksX6_marry_2 24 rfl rfl
theorem dksX6_marry_4 : cX6_marry.data.toList.drop 93 = dktX6_marry_4 := dk_seg dksX6_marry_3 22 rfl rfl
theorem dksX6_marry_5 : cX6_marry.data.toList.drop 117 = dktX6_marry_5 := dk_seg dksX6_marry_4 24 rfl rfl
theorem dksX6_marry_6 : cX6_marry.data.toList.drop 141 = dktX6_marry_6 := dk_seg dksX6_marry_5 24 rfl rfl
theorem dX6_marry_0 : decode cX6_marry 0 = .ok (.aload_n 0, 1) := dk_42 (dk_at dksX6_marry_0 0 rfl rfl)
theorem dX6_marry_1 : decode cX6_marry 1 = .ok (.aload_n 0, 1) := dk_42 (dk_at dksX6_marry_0 1 rfl rfl)
theorem dX6_marry_2 : decode cX6_marry 2 = .ok (.iload_n 1, 1) := dk_27 (dk_at dksX6_marry_0 2 rfl rfl)
theorem dX6_marry_3 : decode cX6_marry 3 = .ok (.invokevirtual 200, 3) := dk_182 0 200 (dk_at dksX6_marry_0 3 rfl rfl)
theorem dX6_marry_6 : decode cX6_marry 6 = .ok (.ifCond .eq 11, 3) := dk_153 0 11 (dk_at dksX6_marry_0 6 rfl rfl)
theorem dX6_marry_9 : decode cX6_marry 9 = .ok (.aload_n 0, 1) := dk_42 (dk_at dksX6_marry_0 9 rfl rfl)
theorem dX6_marry_10 : decode cX6_marry 10 = .ok (.iload_n 2, 1) := dk_28 (dk_at dksX6_marry_0 10 rfl rfl)
theorem dX6_marry_11 : decode cX6_marry 11 = .ok (.invokevirtual 200, 3) := dk_182 0 200 (dk_at dksX6_marry_0 11 rfl rfl)
theorem dX6_marry_14 : decode cX6_marry 14 = .ok (.ifCond .ne 7, 3) := dk_154 0 7 (dk_at dksX6_marry_0 14 rfl rfl)
theorem dX6_marry_17 : decode cX6_marry 17 = .ok (.iconst 1, 1) := dk_4 (dk_at dksX6_marry_0 17 rfl rfl)
theorem dX6_marry_18 : decode cX6_marry 18 = .ok (.goto 41, 3) := dk_167 0 41 (dk_at dksX6_marry_0 18 rfl rfl)
theorem dX6_marry_21 : decode cX6_marry 21 = .ok (.iload_n 1, 1) := dk_27 (dk_at dksX6_marry_0 21 rfl rfl)
theorem dX6_marry_22 : decode cX6_marry 22 = .ok (.iload_n 2, 1) := dk_28 (dk_at dksX6_marry_0 22 rfl rfl)
theorem dX6_marry_23 : decode cX6_marry 23 = .ok (.if_icmp .ne 7, 3) := dk_160 0 7 (dk_at dksX6_marry_1 0 rfl rfl)
theorem dX6_marry_26 : decode cX6_marry 26 = .ok (.iconst 2, 1) := dk_5 (dk_at dksX6_marry_1 3 rfl rfl)
theorem dX6_marry_27 : decode cX6_marry 27 = .ok (.goto 32, 3) := dk_167 0 32 (dk_at dksX6_marry_1 4 rfl rfl)
theorem dX6_marry_30 : decode cX6_marry 30 = .ok (.aload_n 0, 1) := dk_42 (dk_at dksX6_marry_1 7 rfl rfl)
theorem dX6_marry_31 : decode cX6_marry 31 = .ok (.getfield 7, 3) := dk_180 0 7 (dk_at dksX6_marry_1 8 rfl rfl)
theorem dX6_marry_34 : decode cX6_marry 34 = .ok (.bipush 12, 2) := dk_16 12 (dk_at dksX6_marry_1 11 rfl rfl)
theorem dX6_marry_36 : decode cX6_marry 36 = .ok (.iload_n 1, 1) := dk_27 (dk_at dksX6_marry_1 13 rfl rfl)
theorem dX6_marry_37 : decode cX6_marry 37 = .ok (.iadd, 1) := dk_96 (dk_at dksX6_marry_1 14 rfl rfl)
theorem dX6_marry_38 : decode cX6_marry 38 = .ok (.iaload, 1) := dk_46 (dk_at dksX6_marry_1 15 rfl rfl)
theorem dX6_marry_39 : decode cX6_marry 39 = .ok (.aload_n 0, 1) := dk_42 (dk_at dksX6_marry_1 16 rfl rfl)
theorem dX6_marry_40 : decode cX6_marry 40 = .ok (.getfield 7, 3) := dk_180 0 7 (dk_at dksX6_marry_1 17 rfl rfl)
theorem dX6_marry_43 : decode cX6_marry 43 = .ok (.bipush 12, 2) := dk_16 12 (dk_at dksX6_marry_1 20 rfl rfl)
theorem dX6_marry_45 : decode cX6_marry 45 = .ok (.iload_n 2, 1) := dk_28 (dk_at dksX6_marry_1 22 rfl rfl)
theorem dX6_marry_46 : decode cX6_marry 46 = .ok (.iadd, 1) := dk_96 (dk_at dksX6_marry_1 23 rfl rfl)
theorem dX6_marry_47 : decode cX6_marry 47 = .ok (.iaload, 1) := dk_46 (dk_at dksX6_marry_2 0 rfl rfl)
theorem dX6_marry_48 : decode cX6_marry 48 = .ok (.iadd, 1) := dk_96 (dk_at dksX6_marry_2 1 rfl rfl)
theorem dX6_marry_49 : decode cX6_marry 49 = .ok (.ldc 99, 2) := dk_18 99 (dk_at dksX6_marry_2 2 rfl rfl)
theorem dX6_marry_51 : decode cX6_marry 51 = .ok (.if_icmp .le 7, 3) := dk_164 0 7 (dk_at dksX6_marry_2 4 rfl rfl)
theorem dX6_marry_54 : decode cX6_marry 54 = .ok (.iconst 3, 1) := dk_6 (dk_at dksX6_marry_2 7 rfl rfl)
theorem dX6_marry_55 : decode cX6_marry 55 = .ok (.goto 4, 3) := dk_167 0 4 (dk_at dksX6_marry_2 8 rfl rfl)
theorem dX6_marry_58 : decode cX6_marry 58 = .ok (.iconst 0, 1) := dk_3 (dk_at dksX6_marry_2 11 rfl rfl)
theorem dX6_marry_59 : decode cX6_marry 59 = .ok (.putfield 41, 3) := dk_181 0 41 (dk_at dksX6_marry_2 12 rfl rfl)
theorem dX6_marry_62 : decode cX6_marry 62 = .ok (.aload_n 0, 1) := dk_42 (dk_at dksX6_marry_2 15 rfl rfl)
theorem dX6_marry_63 : decode cX6_marry 63 = .ok (.getfield 41, 3) := dk_180 0 41 (dk_at dksX6_marry_2 16 rfl rfl)
theorem dX6_marry_66 : decode cX6_marry 66 = .ok (.ifCond .le 5, 3) := dk_158 0 5 (dk_at dksX6_marry_2 19 rfl rfl)
theorem dX6_marry_69 : decode cX6_marry 69 = .ok (.iconst 0, 1) := dk_3 (dk_at dksX6_marry_2 22 rfl rfl)
theorem dX6_marry_70 : decode cX6_marry 70 = .ok (.ireturn, 1) := dk_172 (dk_at dksX6_marry_2 23 rfl rfl)
theorem dX6_marry_71 : decode cX6_marry 71 = .ok (.aload_n 0, 1) := dk_42 (dk_at dksX6_marry_3 0 rfl rfl)
theorem dX6_marry_72 : decode cX6_marry 72 = .ok (.getfield 7, 3) := dk_180 0 7 (dk_at dksX6_marry_3 1 rfl rfl)
theorem dX6_marry_75 : decode cX6_marry 75 = .ok (.bipush 12, 2) := dk_16 12 (dk_at dksX6_marry_3 4 rfl rfl)
theorem dX6_marry_77 : decode cX6_marry 77 = .ok (.iload_n 1, 1) := dk_27 (dk_at dksX6_marry_3 6 rfl rfl)
theorem dX6_marry_78 : decode cX6_marry 78 = .ok (.iadd, 1) := dk_96 (dk_at dksX6_marry_3 7 rfl rfl)
theorem dX6_marry_79 : decode cX6_marry 79 = .ok (.dup2, 1) := dk_92 (dk_at dksX6_marry_3 8 rfl rfl)
theorem dX6_marry_80 : decode cX6_marry 80 = .ok (.iaload, 1) := dk_46 (dk_at dksX6_marry_3 9 rfl rfl)
theorem dX6_marry_81 : decode cX6_marry 81 = .ok (.aload_n 0, 1) := dk_42 (dk_at dksX6_marry_3 10 rfl rfl)
theorem dX6_marry_82 : decode cX6_marry 82 = .ok (.getfield 7, 3) := dk_180 0 7 (dk_at dksX6_marry_3 11 rfl rfl)
theorem dX6_marry_85 : decode cX6_marry 85 = .ok (.bipush 12, 2) := dk_16 12 (dk_at dksX6_marry_3 14 rfl rfl)
theorem dX6_marry_87 : decode cX6_marry 87 = .ok (.iload_n 2, 1) := dk_28 (dk_at dksX6_marry_3 16 rfl rfl)
theorem dX6_marry_88 : decode cX6_marry 88 = .ok (.iadd, 1) := dk_96 (dk_at dksX6_marry_3 17 rfl rfl)
theorem dX6_marry_89 : decode cX6_marry 89 = .ok (.iaload, 1) := dk_46 (dk_at dksX6_marry_3 18 rfl rfl)
theorem dX6_marry_90 : decode cX6_marry 90 = .ok (.iadd, 1) := dk_96 (dk_at dksX6_marry_3 19 rfl rfl)
theorem dX6_marry_91 : decode cX6_marry 91 = .ok (.iastore, 1) := dk_79 (dk_at dksX6_marry_3 20 rfl rfl)
theorem dX6_marry_92 : decode cX6_marry 92 = .ok (.aload_n 0, 1) := dk_42 (dk_at dksX6_marry_3 21 rfl rfl)
theorem dX6_marry_93 : decode cX6_marry 93 = .ok (.getfield 7, 3) := dk_180 0 7 (dk_at dksX6_marry_4 0 rfl rfl)
theorem dX6_marry_96 : decode cX6_marry 96 = .ok (.bipush 12, 2) := dk_16 12 (dk_at dksX6_marry_4 3 rfl rfl)
theorem dX6_marry_98 : decode cX6_marry 98 = .ok (.iload_n 2, 1) := dk_28 (dk_at dksX6_marry_4 5 rfl rfl)
theorem dX6_marry_99 : decode cX6_marry 99 = .ok (.iadd, 1) := dk_96 (dk_at dksX6_marry_4 6 rfl rfl)
theorem dX6_marry_100 : decode cX6_marry 100 = .ok (.iconst 0, 1) := dk_3 (dk_at dksX6_marry_4 7 rfl rfl)
theorem dX6_marry_101 : decode cX6_marry 101 = .ok (.iastore, 1) := dk_79 (dk_at dksX6_marry_4 8 rfl rfl)
theorem dX6_marry_102 : decode cX6_marry 102 = .ok (.iconst 0, 1) := dk_3 (dk_at dksX6_marry_4 9 rfl rfl)
theorem dX6_marry_103 : decode cX6_marry 103 = .ok (.istore_n 3, 1) := dk_62 (dk_at dksX6_marry_4 10 rfl rfl)
theorem dX6_marry_104 : decode cX6_marry 104 = .ok (.iload_n 3, 1) := dk_29 (dk_at dksX6_marry_4 11 rfl rfl)
theorem dX6_marry_105 : decode cX6_marry 105 = .ok (.aload_n 0, 1) := dk_42 (dk_at dksX6_marry_4 12 rfl rfl)
theorem dX6_marry_106 : decode cX6_marry 106 = .ok (.getfield 7, 3) := dk_180 0 7 (dk_at dksX6_marry_4 13 rfl rfl)
theorem dX6_marry_109 : decode cX6_marry 109 = .ok (.iconst 2, 1) := dk_5 (dk_at dksX6_marry_4 16 rfl rfl)
theorem dX6_marry_110 : decode cX6_marry 110 = .ok (.iaload, 1) := dk_46 (dk_at dksX6_marry_4 17 rfl rfl)
theorem dX6_marry_111 : decode cX6_marry 111 = .ok (.if_icmp .ge 33, 3) := dk_162 0 33 (dk_at dksX6_marry_4 18 rfl rfl)
theorem dX6_marry_114 : decode cX6_marry 114 = .ok (.aload_n 0, 1) := dk_42 (dk_at dksX6_marry_4 21 rfl rfl)
theorem dX6_marry_115 : decode cX6_marry 115 = .ok (.iload_n 3, 1) := dk_29 (dk_at dksX6_marry_4 22 rfl rfl)
theorem dX6_marry_116 : decode cX6_marry 116 = .ok (.iconst 2, 1) := dk_5 (dk_at dksX6_marry_4 23 rfl rfl)
theorem dX6_marry_117 : decode cX6_marry 117 = .ok (.invokevirtual 203, 3) := dk_182 0 203 (dk_at dksX6_marry_5 0 rfl rfl)
theorem dX6_marry_120 : decode cX6_marry 120 = .ok (.iload_n 2, 1) := dk_28 (dk_at dksX6_marry_5 3 rfl rfl)
theorem dX6_marry_121 : decode cX6_marry 121 = .ok (.if_icmp .ne 17, 3) := dk_160 0 17 (dk_at dksX6_marry_5 4 rfl rfl)
theorem dX6_marry_124 : decode cX6_marry 124 = .ok (.aload_n 0, 1) := dk_42 (dk_at dksX6_marry_5 7 rfl rfl)
theorem dX6_marry_125 : decode cX6_marry 125 = .ok (.getfield 7, 3) := dk_180 0 7 (dk_at dksX6_marry_5 8 rfl rfl)
theorem dX6_marry_128 : decode cX6_marry 128 = .ok (.bipush 20, 2) := dk_16 20 (dk_at dksX6_marry_5 11 rfl rfl)
theorem dX6_marry_130 : decode cX6_marry 130 = .ok (.iconst 4, 1) := dk_7 (dk_at dksX6_marry_5 13 rfl rfl)
theorem dX6_marry_131 : decode cX6_marry 131 = .ok (.iload_n 3, 1) := dk_29 (dk_at dksX6_marry_5 14 rfl rfl)
theorem dX6_marry_132 : decode cX6_marry 132 = .ok (.imul, 1) := dk_104 (dk_at dksX6_marry_5 15 rfl rfl)
theorem dX6_marry_133 : decode cX6_marry 133 = .ok (.iadd, 1) := dk_96 (dk_at dksX6_marry_5 16 rfl rfl)
theorem dX6_marry_134 : decode cX6_marry 134 = .ok (.iconst 2, 1) := dk_5 (dk_at dksX6_marry_5 17 rfl rfl)
theorem dX6_marry_135 : decode cX6_marry 135 = .ok (.iadd, 1) := dk_96 (dk_at dksX6_marry_5 18 rfl rfl)
theorem dX6_marry_136 : decode cX6_marry 136 = .ok (.iload_n 1, 1) := dk_27 (dk_at dksX6_marry_5 19 rfl rfl)
theorem dX6_marry_137 : decode cX6_marry 137 = .ok (.iastore, 1) := dk_79 (dk_at dksX6_marry_5 20 rfl rfl)
theorem dX6_marry_138 : decode cX6_marry 138 = .ok (.iinc 3 1, 3) := dk_132 3 1 (dk_at dksX6_marry_5 21 rfl rfl)
theorem dX6_marry_141 : decode cX6_marry 141 = .ok (.goto (-37), 3) := dk_167 255 219 (dk_at dksX6_marry_6 0 rfl rfl)
theorem dX6_marry_144 : decode cX6_marry 144 = .ok (.aload_n 0, 1) := dk_42 (dk_at dksX6_marry_6 3 rfl rfl)
theorem dX6_marry_145 : decode cX6_marry 145 = .ok (.getfield 7, 3) := dk_180 0 7 (dk_at dksX6_marry_6 4 rfl rfl)
theorem dX6_marry_148 : decode cX6_marry 148 = .ok (.bipush 12, 2) := dk_16 12 (dk_at dksX6_marry_6 7 rfl rfl)
theorem dX6_marry_150 : decode cX6_marry 150 = .ok (.iload_n 1, 1) := dk_27 (dk_at dksX6_marry_6 9 rfl rfl)
theorem dX6_marry_151 : decode cX6_marry 151 = .ok (.iadd, 1) := dk_96 (dk_at dksX6_marry_6 10 rfl rfl)
theorem dX6_marry_152 : decode cX6_marry 152 = .ok (.iaload, 1) := dk_46 (dk_at dksX6_marry_6 11 rfl rfl)
theorem dX6_marry_153 : decode cX6_marry 153 = .ok (.ireturn, 1) := dk_172 (dk_at dksX6_marry_6 12 rfl rfl)
abbrev cX6_mend : ByteArray := prog_23_method_51_code
def yX6_mend : MethodName := ⟨RX6, "mend", "(I)I"⟩
def dkwX6_mend_2 : List UInt8 := [180, 0, 7, 16, 68, 6, 27, 104, 96, 5, 96, 42, 180, 0, 7, 7, 46, 79, 28, 172]
abbrev dktX6_mend_2 : List UInt8 := dkwX6_mend_2 ++ []
def dkwX6_mend_1 : List UInt8 := [3, 172, 42, 27, 4, 182, 0, 212, 61, 42, 180, 0, 7, 16, 68, 6, 27, 104, 96, 4, 96, 3, 79, 42]
abbrev dktX6_mend_1 : List UInt8 := dkwX6_mend_1 ++ dktX6_mend_2
def dkwX6_mend_0 : List UInt8 := [42, 42, 27, 182, 0, 215, 154, 0, 7, 4, 167, 0, 4, 3, 181, 0, 41, 42, 180, 0, 41, 158, 0, 5]
abbrev dktX6_mend_0 : List UInt8 := dkwX6_mend_0 ++ dktX6_mend_1
theorem dksX6_mend_0 : cX6_mend.data.toList.drop 0 = dktX6_mend_0 := by decide +kernel
theorem dksX6_mend_1 : cX6_mend.data.toList.drop 24 = dktX6_mend_1 := dk_seg dksX6_mend_0 24 rfl rfl
theorem dksX6_mend_2 : cX6_mend.data.toList.drop 48 = dktX6_mend_2 := dk_seg dksX6_mend_1 24 rfl rfl
theorem dX6_mend_0 : decode cX6_mend 0 = .ok (.aload_n 0, 1) := dk_42 (dk_at dksX6_mend_0 0 rfl rfl)
theorem dX6_mend_1 : decode cX6_mend 1 = .ok (.aload_n 0, 1) := dk_42 (dk_at dksX6_mend_0 1 rfl rfl)
theorem dX6_mend_2 : decode cX6_mend 2 = .ok (.iload_n 1, 1) := dk_27 (dk_at dksX6_mend_0 2 rfl rfl)
theorem dX6_mend_3 : decode cX6_mend 3 = .ok (.invokevirtual 215, 3) := dk_182 0 215 (dk_at dksX6_mend_0 3 rfl rfl)
theorem dX6_mend_6 : decode cX6_mend 6 = .ok (.ifCond .ne 7, 3) := dk_154 0 7 (dk_at dksX6_mend_0 6 rfl rfl)
theorem dX6_mend_9 : decode cX6_mend 9 = .ok (.iconst 1, 1) := dk_4 (dk_at dksX6_mend_0 9 rfl rfl)
theorem dX6_mend_10 : decode cX6_mend 10 = .ok (.goto 4, 3) := dk_167 0 4 (dk_at dksX6_mend_0 10 rfl rfl)
theorem dX6_mend_13 : decode cX6_mend 13 = .ok (.iconst 0, 1) := dk_3 (dk_at dksX6_mend_0 13 rfl rfl)
theorem dX6_mend_14 : decode cX6_mend 14 = .ok (.putfield 41, 3) := dk_181 0 41 (dk_at dksX6_mend_0 14 rfl rfl)
theorem dX6_mend_17 : decode cX6_mend 17 = .ok (.aload_n 0, 1) := dk_42 (dk_at dksX6_mend_0 17 rfl rfl)
theorem dX6_mend_18 : decode cX6_mend 18 = .ok (.getfield 41, 3) := dk_180 0 41 (dk_at dksX6_mend_0 18 rfl rfl)
theorem dX6_mend_21 : decode cX6_mend 21 = .ok (.ifCond .le 5, 3) := dk_158 0 5 (dk_at dksX6_mend_0 21 rfl rfl)
theorem dX6_mend_24 : decode cX6_mend 24 = .ok (.iconst 0, 1) := dk_3 (dk_at dksX6_mend_1 0 rfl rfl)
theorem dX6_mend_25 : decode cX6_mend 25 = .ok (.ireturn, 1) := dk_172 (dk_at dksX6_mend_1 1 rfl rfl)
theorem dX6_mend_26 : decode cX6_mend 26 = .ok (.aload_n 0, 1) := dk_42 (dk_at dksX6_mend_1 2 rfl rfl)
theorem dX6_mend_27 : decode cX6_mend 27 = .ok (.iload_n 1, 1) := dk_27 (dk_at dksX6_mend_1 3 rfl rfl)
theorem dX6_mend_28 : decode cX6_mend 28 = .ok (.iconst 1, 1) := dk_4 (dk_at dksX6_mend_1 4 rfl rfl)
theorem dX6_mend_29 : decode cX6_mend 29 = .ok (.invokevirtual 212, 3) := dk_182 0 212 (dk_at dksX6_mend_1 5 rfl rfl)
theorem dX6_mend_32 : decode cX6_mend 32 = .ok (.istore_n 2, 1) := dk_61 (dk_at dksX6_mend_1 8 rfl rfl)
theorem dX6_mend_33 : decode cX6_mend 33 = .ok (.aload_n 0, 1) := dk_42 (dk_at dksX6_mend_1 9 rfl rfl)
theorem dX6_mend_34 : decode cX6_mend 34 = .ok (.getfield 7, 3) := dk_180 0 7 (dk_at dksX6_mend_1 10 rfl rfl)
theorem dX6_mend_37 : decode cX6_mend 37 = .ok (.bipush 68, 2) := dk_16 68 (dk_at dksX6_mend_1 13 rfl rfl)
theorem dX6_mend_39 : decode cX6_mend 39 = .ok (.iconst 3, 1) := dk_6 (dk_at dksX6_mend_1 15 rfl rfl)
theorem dX6_mend_40 : decode cX6_mend 40 = .ok (.iload_n 1, 1) := dk_27 (dk_at dksX6_mend_1 16 rfl rfl)
theorem dX6_mend_41 : decode cX6_mend 41 = .ok (.imul, 1) := dk_104 (dk_at dksX6_mend_1 17 rfl rfl)
theorem dX6_mend_42 : decode cX6_mend 42 = .ok (.iadd, 1) := dk_96 (dk_at dksX6_mend_1 18 rfl rfl)
theorem dX6_mend_43 : decode cX6_mend 43 = .ok (.iconst 1, 1) := dk_4 (dk_at dksX6_mend_1 19 rfl rfl)
theorem dX6_mend_44 : decode cX6_mend 44 = .ok (.iadd, 1) := dk_96 (dk_at dksX6_mend_1 20 rfl rfl)
theorem dX6_mend_45 : decode cX6_mend 45 = .ok (.iconst 0, 1) := dk_3 (dk_at dksX6_mend_1 21 rfl rfl)
theorem dX6_mend_46 : decode cX6_mend 46 = .ok (.iastore, 1) := dk_79 (dk_at dksX6_mend_1 22 rfl rfl)
theorem dX6_mend_47 : decode cX6_mend 47 = .ok (.aload_n 0, 1) := dk_42 (dk_at dksX6_mend_1 23 rfl rfl)
theorem dX6_mend_48 : decode cX6_mend 48 = .ok (.getfield 7, 3) := dk_180 0 7 (dk_at dksX6_mend_2 0 rfl rfl)
theorem dX6_mend_51 : decode cX6_mend 51 = .ok (.bipush 68, 2) := dk_16 68 (dk_at dksX6_mend_2 3 rfl rfl)
theorem dX6_mend_53 : decode cX6_mend 53 = .ok (.iconst 3, 1) := dk_6 (dk_at dksX6_mend_2 5 rfl rfl)
theorem dX6_mend_54 : decode cX6_mend 54 = .ok (.iload_n 1, 1) := dk_27 (dk_at dksX6_mend_2 6 rfl rfl)
theorem dX6_mend_55 : decode cX6_mend 55 = .ok (.imul, 1) := dk_104 (dk_at dksX6_mend_2 7 rfl rfl)
theorem dX6_mend_56 : decode cX6_mend 56 = .ok (.iadd, 1) := dk_96 (dk_at dksX6_mend_2 8 rfl rfl)
theorem dX6_mend_57 : decode cX6_mend 57 = .ok (.iconst 2, 1) := dk_5 (dk_at dksX6_mend_2 9 rfl rfl)
theorem dX6_mend_58 : decode cX6_mend 58 = .ok (.iadd, 1) := dk_96 (dk_at dksX6_mend_2 10 rfl rfl)
theorem dX6_mend_59 : decode cX6_mend 59 = .ok (.aload_n 0, 1) := dk_42 (dk_at dksX6_mend_2 11 rfl rfl)
theorem dX6_mend_60 : decode cX6_mend 60 = .ok (.getfield 7, 3) := dk_180 0 7 (dk_at dksX6_mend_2 12 rfl rfl)
theorem dX6_mend_63 : decode cX6_mend 63 = .ok (.iconst 4, 1) := dk_7 (dk_at dksX6_mend_2 15 rfl rfl)
theorem dX6_mend_64 : decode cX6_mend 64 = .ok (.iaload, 1) := dk_46 (dk_at dksX6_mend_2 16 rfl rfl)
theorem dX6_mend_65 : decode cX6_mend 65 = .ok (.iastore, 1) := dk_79 (dk_at dksX6_mend_2 17 rfl rfl)
theorem dX6_mend_66 : decode cX6_mend 66 = .ok (.iload_n 2, 1) := dk_28 (dk_at dksX6_mend_2 18 rfl rfl)
theorem dX6_mend_67 : decode cX6_mend 67 = .ok (.ireturn, 1) := dk_172 (dk_at dksX6_mend_2 19 rfl rfl)
abbrev cX6_worn : ByteArray := prog_23_method_52_code
def yX6_worn : MethodName := ⟨RX6, "worn", "(II)I"⟩
def dkwX6_worn_2 : List UInt8 := [42, 180, 0, 7, 16, 68, 6, 27, 104, 96, 4, 96, 28, 79, 29, 172]
abbrev dktX6_worn_2 : List UInt8 := dkwX6_worn_2 ++ []
def dkwX6_worn_1 : List UInt8 := [5, 167, 0, 4, 3, 181, 0, 41, 42, 180, 0, 41, 158, 0, 5, 3, 172, 42, 27, 4, 182, 0, 212, 62]
abbrev dktX6_worn_1 : List UInt8 := dkwX6_worn_1 ++ dktX6_worn_2
def dkwX6_worn_0 : List UInt8 := [42, 42, 27, 182, 0, 215, 154, 0, 7, 4, 167, 0, 19, 28, 3, 17, 3, 231, 184, 0, 44, 154, 0, 7]
abbrev dktX6_worn_0 : List UInt8 := dkwX6_worn_0 ++ dktX6_worn_1
theorem dksX6_worn_0 : cX6_worn.data.toList.drop 0 = dktX6_worn_0 := by decide +kernel
theorem dksX6_worn_1 : cX6_worn.data.toList.drop 24 = dktX6_worn_1 := dk_seg dksX6_worn_0 24 rfl rfl
theorem dksX6_worn_2 : cX6_worn.data.toList.drop 48 = dktX6_worn_2 := dk_seg dksX6_worn_1 24 rfl rfl
theorem dX6_worn_0 : decode cX6_worn 0 = .ok (.aload_n 0, 1) := dk_42 (dk_at dksX6_worn_0 0 rfl rfl)
theorem dX6_worn_1 : decode cX6_worn 1 = .ok (.aload_n 0, 1) := dk_42 (dk_at dksX6_worn_0 1 rfl rfl)
theorem dX6_worn_2 : decode cX6_worn 2 = .ok (.iload_n 1, 1) := dk_27 (dk_at dksX6_worn_0 2 rfl rfl)
theorem dX6_worn_3 : decode cX6_worn 3 = .ok (.invokevirtual 215, 3) := dk_182 0 215 (dk_at dksX6_worn_0 3 rfl rfl)
theorem dX6_worn_6 : decode cX6_worn 6 = .ok (.ifCond .ne 7, 3) := dk_154 0 7 (dk_at dksX6_worn_0 6 rfl rfl)
theorem dX6_worn_9 : decode cX6_worn 9 = .ok (.iconst 1, 1) := dk_4 (dk_at dksX6_worn_0 9 rfl rfl)
theorem dX6_worn_10 : decode cX6_worn 10 = .ok (.goto 19, 3) := dk_167 0 19 (dk_at dksX6_worn_0 10 rfl rfl)
theorem dX6_worn_13 : decode cX6_worn 13 = .ok (.iload_n 2, 1) := dk_28 (dk_at dksX6_worn_0 13 rfl rfl)
theorem dX6_worn_14 : decode cX6_worn 14 = .ok (.iconst 0, 1) := dk_3 (dk_at dksX6_worn_0 14 rfl rfl)
theorem dX6_worn_15 : decode cX6_worn 15 = .ok (.sipush 999, 3) := dk_17 3 231 (dk_at dksX6_worn_0 15 rfl rfl)
theorem dX6_worn_18 : decode cX6_worn 18 = .ok (.invokestatic 44, 3) := dk_184 0 44 (dk_at dksX6_worn_0 18 rfl rfl)
theorem dX6_worn_21 : decode cX6_worn 21 = .ok (.ifCond .ne 7, 3) := dk_154 0 7 (dk_at dksX6_worn_0 21 rfl rfl)
theorem dX6_worn_24 : decode cX6_worn 24 = .ok (.iconst 2, 1) := dk_5 (dk_at dksX6_worn_1 0 rfl rfl)
theorem dX6_worn_25 : decode cX6_worn 25 = .ok (.goto 4, 3) := dk_167 0 4 (dk_at dksX6_worn_1 1 rfl rfl)
theorem dX6_worn_28 : decode cX6_worn 28 = .ok (.iconst 0, 1) := dk_3 (dk_at dksX6_worn_1 4 rfl rfl)
theorem dX6_worn_29 : decode cX6_worn 29 = .ok (.putfield 41, 3) := dk_181 0 41 (dk_at dksX6_worn_1 5 rfl rfl)
theorem dX6_worn_32 : decode cX6_worn 32 = .ok (.aload_n 0, 1) := dk_42 (dk_at dksX6_worn_1 8 rfl rfl)
theorem dX6_worn_33 : decode cX6_worn 33 = .ok (.getfield 41, 3) := dk_180 0 41 (dk_at dksX6_worn_1 9 rfl rfl)
theorem dX6_worn_36 : decode cX6_worn 36 = .ok (.ifCond .le 5, 3) := dk_158 0 5 (dk_at dksX6_worn_1 12 rfl rfl)
theorem dX6_worn_39 : decode cX6_worn 39 = .ok (.iconst 0, 1) := dk_3 (dk_at dksX6_worn_1 15 rfl rfl)
theorem dX6_worn_40 : decode cX6_worn 40 = .ok (.ireturn, 1) := dk_172 (dk_at dksX6_worn_1 16 rfl rfl)
theorem dX6_worn_41 : decode cX6_worn 41 = .ok (.aload_n 0, 1) := dk_42 (dk_at dksX6_worn_1 17 rfl rfl)
theorem dX6_worn_42 : decode cX6_worn 42 = .ok (.iload_n 1, 1) := dk_27 (dk_at dksX6_worn_1 18 rfl rfl)
theorem dX6_worn_43 : decode cX6_worn 43 = .ok (.iconst 1, 1) := dk_4 (dk_at dksX6_worn_1 19 rfl rfl)
theorem dX6_worn_44 : decode cX6_worn 44 = .ok (.invokevirtual 212, 3) := dk_182 0 212 (dk_at dksX6_worn_1 20 rfl rfl)
theorem dX6_worn_47 : decode cX6_worn 47 = .ok (.istore_n 3, 1) := dk_62 (dk_at dksX6_worn_1 23 rfl rfl)
theorem dX6_worn_48 : decode cX6_worn 48 = .ok (.aload_n 0, 1) := dk_42 (dk_at dksX6_worn_2 0 rfl rfl)
theorem dX6_worn_49 : decode cX6_worn 49 = .ok (.getfield 7, 3) := dk_180 0 7 (dk_at dksX6_worn_2 1 rfl rfl)
theorem dX6_worn_52 : decode cX6_worn 52 = .ok (.bipush 68, 2) := dk_16 68 (dk_at dksX6_worn_2 4 rfl rfl)
theorem dX6_worn_54 : decode cX6_worn 54 = .ok (.iconst 3, 1) := dk_6 (dk_at dksX6_worn_2 6 rfl rfl)
theorem dX6_worn_55 : decode cX6_worn 55 = .ok (.iload_n 1, 1) := dk_27 (dk_at dksX6_worn_2 7 rfl rfl)
theorem dX6_worn_56 : decode cX6_worn 56 = .ok (.imul, 1) := dk_104 (dk_at dksX6_worn_2 8 rfl rfl)
theorem dX6_worn_57 : decode cX6_worn 57 = .ok (.iadd, 1) := dk_96 (dk_at dksX6_worn_2 9 rfl rfl)
theorem dX6_worn_58 : decode cX6_worn 58 = .ok (.iconst 1, 1) := dk_4 (dk_at dksX6_worn_2 10 rfl rfl)
theorem dX6_worn_59 : decode cX6_worn 59 = .ok (.iadd, 1) := dk_96 (dk_at dksX6_worn_2 11 rfl rfl)
theorem dX6_worn_60 : decode cX6_worn 60 = .ok (.iload_n 2, 1) := dk_28 (dk_at dksX6_worn_2 12 rfl rfl)
theorem dX6_worn_61 : decode cX6_worn 61 = .ok (.iastore, 1) := dk_79 (dk_at dksX6_worn_2 13 rfl rfl)
theorem dX6_worn_62 : decode cX6_worn 62 = .ok (.iload_n 3, 1) := dk_29 (dk_at dksX6_worn_2 14 rfl rfl)
theorem dX6_worn_63 : decode cX6_worn 63 = .ok (.ireturn, 1) := dk_172 (dk_at dksX6_worn_2 15 rfl rfl)
abbrev cX6_missed : ByteArray := prog_23_method_53_code
def yX6_missed : MethodName := ⟨RX6, "missed", "()I"⟩
def dkwX6_missed_1 : List UInt8 := [153, 0, 5, 27, 172, 132, 1, 1, 167, 255, 233, 2, 172]
abbrev dktX6_missed_1 : List UInt8 := dkwX6_missed_1 ++ []
def dkwX6_missed_0 : List UInt8 := [42, 3, 181, 0, 41, 3, 60, 27, 42, 180, 0, 7, 6, 46, 162, 0, 19, 42, 27, 182, 0, 218]
abbrev dktX6_missed_0 : List UInt8 := dkwX6_missed_0 ++ dktX6_missed_1
theorem dksX6_missed_0 : cX6_missed.data.toList.drop 0 = dktX6_missed_0 := by decide +kernel
theorem dksX6_missed_1 : cX6_missed.data.toList.drop 22 = dktX6_missed_1 := dk_seg dksX6_missed_0 22 rfl rfl
theorem dX6_missed_0 : decode cX6_missed 0 = .ok (.aload_n 0, 1) := dk_42 (dk_at dksX6_missed_0 0 rfl rfl)
theorem dX6_missed_1 : decode cX6_missed 1 = .ok (.iconst 0, 1) := dk_3 (dk_at dksX6_missed_0 1 rfl rfl)
theorem dX6_missed_2 : decode cX6_missed 2 = .ok (.putfield 41, 3) := dk_181 0 41 (dk_at dksX6_missed_0 2 rfl rfl)
theorem dX6_missed_5 : decode cX6_missed 5 = .ok (.iconst 0, 1) := dk_3 (dk_at dksX6_missed_0 5 rfl rfl)
theorem dX6_missed_6 : decode cX6_missed 6 = .ok (.istore_n 1, 1) := dk_60 (dk_at dksX6_missed_0 6 rfl rfl)
theorem dX6_missed_7 : decode cX6_missed 7 = .ok (.iload_n 1, 1) := dk_27 (dk_at dksX6_missed_0 7 rfl rfl)
theorem dX6_missed_8 : decode cX6_missed 8 = .ok (.aload_n 0, 1) := dk_42 (dk_at dksX6_missed_0 8 rfl rfl)
theorem dX6_missed_9 : decode cX6_missed 9 = .ok (.getfield 7, 3) := dk_180 0 7 (dk_at dksX6_missed_0 9 rfl rfl)
theorem dX6_missed_12 : decode cX6_missed 12 = .ok (.iconst 3, 1) := dk_6 (dk_at dksX6_missed_0 12 rfl rfl)
theorem dX6_missed_13 : decode cX6_missed 13 = .ok (.iaload, 1) := dk_46 (dk_at dksX6_missed_0 13 rfl rfl)
theorem dX6_missed_14 : decode cX6_missed 14 = .ok (.if_icmp .ge 19, 3) := dk_162 0 19 (dk_at dksX6_missed_0 14 rfl rfl)
theorem dX6_missed_17 : decode cX6_missed 17 = .ok (.aload_n 0, 1) := dk_42 (dk_at dksX6_missed_0 17 rfl rfl)
theorem dX6_missed_18 : decode cX6_missed 18 = .ok (.iload_n 1, 1) := dk_27 (dk_at dksX6_missed_0 18 rfl rfl)
theorem dX6_missed_19 : decode cX6_missed 19 = .ok (.invokevirtual 218, 3) := dk_182 0 218 (dk_at dksX6_missed_0 19 rfl rfl)
theorem dX6_missed_22 : decode cX6_missed 22 = .ok (.ifCond .eq 5, 3) := dk_153 0 5 (dk_at dksX6_missed_1 0 rfl rfl)
theorem dX6_missed_25 : decode cX6_missed 25 = .ok (.iload_n 1, 1) := dk_27 (dk_at dksX6_missed_1 3 rfl rfl)
theorem dX6_missed_26 : decode cX6_missed 26 = .ok (.ireturn, 1) := dk_172 (dk_at dksX6_missed_1 4 rfl rfl)
theorem dX6_missed_27 : decode cX6_missed 27 = .ok (.iinc 1 1, 3) := dk_132 1 1 (dk_at dksX6_missed_1 5 rfl rfl)
theorem dX6_missed_30 : decode cX6_missed 30 = .ok (.goto (-23), 3) := dk_167 255 233 (dk_at dksX6_missed_1 8 rfl rfl)
theorem dX6_missed_33 : decode cX6_missed 33 = .ok (.iconst (-1), 1) := dk_2 (dk_at dksX6_missed_1 11 rfl rfl)
theorem dX6_missed_34 : decode cX6_missed 34 = .ok (.ireturn, 1) := dk_172 (dk_at dksX6_missed_1 12 rfl rfl)
abbrev cX6_deal : ByteArray := prog_23_method_55_code
def yX6_deal : MethodName := ⟨RX6, "deal", "(IZ)I"⟩
def dkwX6_deal_8 : List UInt8 := [159, 0, 7, 28, 153, 0, 7, 29, 167, 0, 5, 21, 4, 172]
abbrev dktX6_deal_8 : List UInt8 := dkwX6_deal_8 ++ []
def dkwX6_deal_7 : List UInt8 := [184, 0, 241, 161, 0, 6, 167, 0, 10, 21, 5, 62, 21, 7, 54, 4, 132, 5, 1, 167, 255, 107, 29, 2]
abbrev dktX6_deal_7 : List UInt8 := dkwX6_deal_7 ++ dktX6_deal_8
def dkwX6_deal_6 : List UInt8 := [159, 0, 32, 21, 7, 21, 4, 163, 0, 32, 21, 7, 21, 4, 160, 0, 18, 21, 5, 184, 0, 241, 29]
abbrev dktX6_deal_6 : List UInt8 := dkwX6_deal_6 ++ dktX6_deal_7
def dkwX6_deal_5 : List UInt8 := [167, 255, 193, 21, 6, 42, 180, 0, 7, 16, 12, 27, 96, 46, 162, 0, 6, 167, 0, 44, 29, 2]
abbrev dktX6_deal_5 : List UInt8 := dkwX6_deal_5 ++ dktX6_deal_6
def dkwX6_deal_4 : List UInt8 := [54, 6, 21, 7, 42, 180, 0, 7, 16, 98, 5, 21, 8, 104, 96, 4, 96, 46, 96, 54, 7, 132, 8, 1]
abbrev dktX6_deal_4 : List UInt8 := dkwX6_deal_4 ++ dktX6_deal_5
def dkwX6_deal_3 : List UInt8 := [4, 126, 154, 0, 6, 167, 0, 39, 21, 6, 42, 180, 0, 7, 16, 98, 5, 21, 8, 104, 96, 46, 96]
abbrev dktX6_deal_3 : List UInt8 := dkwX6_deal_3 ++ dktX6_deal_4
def dkwX6_deal_2 : List UInt8 := [54, 6, 3, 54, 7, 3, 54, 8, 21, 8, 42, 180, 0, 7, 8, 46, 162, 0, 58, 21, 5, 21, 8, 122]
abbrev dktX6_deal_2 : List UInt8 := dkwX6_deal_2 ++ dktX6_deal_3
def dkwX6_deal_1 : List UInt8 := [3, 172, 2, 62, 3, 54, 4, 3, 54, 5, 21, 5, 4, 42, 180, 0, 7, 8, 46, 120, 162, 0, 142, 3]
abbrev dktX6_deal_1 : List UInt8 := dkwX6_deal_1 ++ dktX6_deal_2
def dkwX6_deal_0 : List UInt8 := [42, 42, 27, 182, 0, 200, 154, 0, 7, 4, 167, 0, 4, 3, 181, 0, 41, 42, 180, 0, 41, 158, 0, 5]
abbrev dktX6_deal_0 : List UInt8 := dkwX6_deal_0 ++ dktX6_deal_1
theorem dksX6_deal_0 : cX6_deal.data.toList.drop 0 = dktX6_deal_0 := by decide +kernel
theorem dksX6_deal_1 : cX6_deal.data.toList.drop 24 = dktX6_deal_1 := dk_seg dksX6_deal_0 24 rfl rfl
theorem dksX6_deal_2 : cX6_deal.data.toList.drop 48 = dktX6_deal_2 := dk_seg dksX6_deal_1 24 rfl rfl
theorem dksX6_deal_3 : cX6_deal.data.toList.drop 72 = dktX6_deal_3 := dk_seg dksX6_deal_2 24 rfl rfl
theorem dksX6_deal_4 : cX6_deal.data.toList.drop 95 = dktX6_deal_4 := dk_seg dksX6_deal_3 23 rfl rfl
theorem dksX6_deal_5 : cX6_deal.data.toList.drop 119 = dktX6_deal_5 := dk_seg dksX6_deal_4 24 rfl rfl
theorem dksX6_deal_6 : cX6_deal.data.toList.drop 141 = dktX6_deal_6 := dk_seg dksX6_deal_5 22 rfl rfl
theorem dksX6_deal_7 : cX6_deal.data.toList.drop 164 = dktX6_deal_7 := dk_seg dksX6_deal_6 23 rfl rfl
theorem dksX6_deal_8 : cX6_deal.data.toList.drop 188 = dktX6_deal_8 := dk_seg dksX6_deal_7 24 rfl rfl
theorem dX6_deal_0 : decode cX6_deal 0 = .ok (.aload_n 0, 1) := dk_42 (dk_at dksX6_deal_0 0 rfl rfl)
theorem dX6_deal_1 : decode cX6_deal 1 = .ok (.aload_n 0, 1) := dk_42 (dk_at dksX6_deal_0 1 rfl rfl)
theorem dX6_deal_2 : decode cX6_deal 2 = .ok (.iload_n 1, 1) := dk_27 (dk_at dksX6_deal_0 2 rfl rfl)
theorem dX6_deal_3 : decode cX6_deal 3 = .ok (.invokevirtual 200, 3) := dk_182 0 200 (dk_at dksX6_deal_0 3 rfl rfl)
theorem dX6_deal_6 : decode cX6_deal 6 = .ok (.ifCond .ne 7, 3) := dk_154 0 7 (dk_at dksX6_deal_0 6 rfl rfl)
theorem dX6_deal_9 : decode cX6_deal 9 = .ok (.iconst 1, 1) := dk_4 (dk_at dksX6_deal_0 9 rfl rfl)
theorem dX6_deal_10 : decode cX6_deal 10 = .ok (.goto 4, 3) := dk_167 0 4 (dk_at dksX6_deal_0 10 rfl rfl)
theorem dX6_deal_13 : decode cX6_deal 13 = .ok (.iconst 0, 1) := dk_3 (dk_at dksX6_deal_0 13 rfl rfl)
theorem dX6_deal_14 : decode cX6_deal 14 = .ok (.putfield 41, 3) := dk_181 0 41 (dk_at dksX6_deal_0 14 rfl rfl)
theorem dX6_deal_17 : decode cX6_deal 17 = .ok (.aload_n 0, 1) := dk_42 (dk_at dksX6_deal_0 17 rfl rfl)
theorem dX6_deal_18 : decode cX6_deal 18 = .ok (.getfield 41, 3) := dk_180 0 41 (dk_at dksX6_deal_0 18 rfl rfl)
theorem dX6_deal_21 : decode cX6_deal 21 = .ok (.ifCond .le 5, 3) := dk_158 0 5 (dk_at dksX6_deal_0 21 rfl rfl)
theorem dX6_deal_24 : decode cX6_deal 24 = .ok (.iconst 0, 1) := dk_3 (dk_at dksX6_deal_1 0 rfl rfl)
theorem dX6_deal_25 : decode cX6_deal 25 = .ok (.ireturn, 1) := dk_172 (dk_at dksX6_deal_1 1 rfl rfl)
theorem dX6_deal_26 : decode cX6_deal 26 = .ok (.iconst (-1), 1) := dk_2 (dk_at dksX6_deal_1 2 rfl rfl)
theorem dX6_deal_27 : decode cX6_deal 27 = .ok (.istore_n 3, 1) := dk_62 (dk_at dksX6_deal_1 3 rfl rfl)
theorem dX6_deal_28 : decode cX6_deal 28 = .ok (.iconst 0, 1) := dk_3 (dk_at dksX6_deal_1 4 rfl rfl)
theorem dX6_deal_29 : decode cX6_deal 29 = .ok (.istore 4, 2) := dk_54 4 (dk_at dksX6_deal_1 5 rfl rfl)
theorem dX6_deal_31 : decode cX6_deal 31 = .ok (.iconst 0, 1) := dk_3 (dk_at dksX6_deal_1 7 rfl rfl)
theorem dX6_deal_32 : decode cX6_deal 32 = .ok (.istore 5, 2) := dk_54 5 (dk_at dksX6_deal_1 8 rfl rfl)
theorem dX6_deal_34 : decode cX6_deal 34 = .ok (.iload 5, 2) := dk_21 5 (dk_at dksX6_deal_1 10 rfl rfl)
theorem dX6_deal_36 : decode cX6_deal 36 = .ok (.iconst 1, 1) := dk_4 (dk_at dksX6_deal_1 12 rfl rfl)
theorem dX6_deal_37 : decode cX6_deal 37 = .ok (.aload_n 0, 1) := dk_42 (dk_at dksX6_deal_1 13 rfl rfl)
theorem dX6_deal_38 : decode cX6_deal 38 = .ok (.getfield 7, 3) := dk_180 0 7 (dk_at dksX6_deal_1 14 rfl rfl)
theorem dX6_deal_41 : decode cX6_deal 41 = .ok (.iconst 5, 1) := dk_8 (dk_at dksX6_deal_1 17 rfl rfl)
theorem dX6_deal_42 : decode cX6_deal 42 = .ok (.iaload, 1) := dk_46 (dk_at dksX6_deal_1 18 rfl rfl)
theorem dX6_deal_43 : decode cX6_deal 43 = .ok (.ishl, 1) := dk_120 (dk_at dksX6_deal_1 19 rfl rfl)
theorem dX6_deal_44 : decode cX6_deal 44 = .ok (.if_icmp .ge 142, 3) := dk_162 0 142 (dk_at dksX6_deal_1 20 rfl rfl)
theorem dX6_deal_47 : decode cX6_deal 47 = .ok (.iconst 0, 1) := dk_3 (dk_at dksX6_deal_1 23 rfl rfl)
theorem dX6_deal_48 : decode cX6_deal 48 = .ok (.istore 6, 2) := dk_54 6 (dk_at dksX6_deal_2 0 rfl rfl)
theorem dX6_deal_50 : decode cX6_deal 50 = .ok (.iconst 0, 1) := dk_3 (dk_at dksX6_deal_2 2 rfl rfl)
theorem dX6_deal_51 : decode cX6_deal 51 = .ok (.istore 7, 2) := dk_54 7 (dk_at dksX6_deal_2 3 rfl rfl)
theorem dX6_deal_53 : decode cX6_deal 53 = .ok (.iconst 0, 1) := dk_3 (dk_at dksX6_deal_2 5 rfl rfl)
theorem dX6_deal_54 : decode cX6_deal 54 = .ok (.istore 8, 2) := dk_54 8 (dk_at dksX6_deal_2 6 rfl rfl)
theorem dX6_deal_56 : decode cX6_deal 56 = .ok (.iload 8, 2) := dk_21 8 (dk_at dksX6_deal_2 8 rfl rfl)
theorem dX6_deal_58 : decode cX6_deal 58 = .ok (.aload_n 0, 1) := dk_42 (dk_at dksX6_deal_2 10 rfl rfl)
theorem dX6_deal_59 : decode cX6_deal 59 = .ok (.getfield 7, 3) := dk_180 0 7 (dk_at dksX6_deal_2 11 rfl rfl)
theorem dX6_deal_62 : decode cX6_deal 62 = .ok (.iconst 5, 1) := dk_8 (dk_at dksX6_deal_2 14 rfl rfl)
theorem dX6_deal_63 : decode cX6_deal 63 = .ok (.iaload, 1) := dk_46 (dk_at dksX6_deal_2 15 rfl rfl)
theorem dX6_deal_64 : decode cX6_deal 64 = .ok (.if_icmp .ge 58, 3) := dk_162 0 58 (dk_at dksX6_deal_2 16 rfl rfl)
theorem dX6_deal_67 : decode cX6_deal 67 = .ok (.iload 5, 2) := dk_21 5 (dk_at dksX6_deal_2 19 rfl rfl)
theorem dX6_deal_69 : decode cX6_deal 69 = .ok (.iload 8, 2) := dk_21 8 (dk_at dksX6_deal_2 21 rfl rfl)
theorem dX6_deal_71 : decode cX6_deal 71 = .ok (.ishr, 1) := dk_122 (dk_at dksX6_deal_2 23 rfl rfl)
theorem dX6_deal_72 : decode cX6_deal 72 = .ok (.iconst 1, 1) := dk_4 (dk_at dksX6_deal_3 0 rfl rfl)
theorem dX6_deal_73 : decode cX6_deal 73 = .ok (.iand, 1) := dk_126 (dk_at dksX6_deal_3 1 rfl rfl)
theorem dX6_deal_74 : decode cX6_deal 74 = .ok (.ifCond .ne 6, 3) := dk_154 0 6 (dk_at dksX6_deal_3 2 rfl rfl)
theorem dX6_deal_77 : decode cX6_deal 77 = .ok (.goto 39, 3) := dk_167 0 39 (dk_at dksX6_deal_3 5 rfl rfl)
theorem dX6_deal_80 : decode cX6_deal 80 = .ok (.iload 6, 2) := dk_21 6 (dk_at dksX6_deal_3 8 rfl rfl)
theorem dX6_deal_82 : decode cX6_deal 82 = .ok (.aload_n 0, 1) := dk_42 (dk_at dksX6_deal_3 10 rfl rfl)
theorem dX6_deal_83 : decode cX6_deal 83 = .ok (.getfield 7, 3) := dk_180 0 7 (dk_at dksX6_deal_3 11 rfl rfl)
theorem dX6_deal_86 : decode cX6_deal 86 = .ok (.bipush 98, 2) := dk_16 98 (dk_at dksX6_deal_3 14 rfl rfl)
theorem dX6_deal_88 : decode cX6_deal 88 = .ok (.iconst 2, 1) := dk_5 (dk_at dksX6_deal_3 16 rfl rfl)
theorem dX6_deal_89 : decode cX6_deal 89 = .ok (.iload 8, 2) := dk_21 8 (dk_at dksX6_deal_3 17 rfl rfl)
theorem dX6_deal_91 : decode cX6_deal 91 = .ok (.imul, 1) := dk_104 (dk_at dksX6_deal_3 19 rfl rfl)
theorem dX6_deal_92 : decode cX6_deal 92 = .ok (.iadd, 1) := dk_96 (dk_at dksX6_deal_3 20 rfl rfl)
theorem dX6_deal_93 : decode cX6_deal 93 = .ok (.iaload, 1) := dk_46 (dk_at dksX6_deal_3 21 rfl rfl)
theorem dX6_deal_94 : decode cX6_deal 94 = .ok (.iadd, 1) := dk_96 (dk_at dksX6_deal_3 22 rfl rfl)
theorem dX6_deal_95 : decode cX6_deal 95 = .ok (.istore 6, 2) := dk_54 6 (dk_at dksX6_deal_4 0 rfl rfl)
theorem dX6_deal_97 : decode cX6_deal 97 = .ok (.iload 7, 2) := dk_21 7 (dk_at dksX6_deal_4 2 rfl rfl)
theorem dX6_deal_99 : decode cX6_deal 99 = .ok (.aload_n 0, 1) := dk_42 (dk_at dksX6_deal_4 4 rfl rfl)
theorem dX6_deal_100 : decode cX6_deal 100 = .ok (.getfield 7, 3) := dk_180 0 7 (dk_at dksX6_deal_4 5 rfl rfl)
theorem dX6_deal_103 : decode cX6_deal 103 = .ok (.bipush 98, 2) := dk_16 98 (dk_at dksX6_deal_4 8 rfl rfl)
theorem dX6_deal_105 : decode cX6_deal 105 = .ok (.iconst 2, 1) := dk_5 (dk_at dksX6_deal_4 10 rfl rfl)
theorem dX6_deal_106 : decode cX6_deal 106 = .ok (.iload 8, 2) := dk_21 8 (dk_at dksX6_deal_4 11 rfl rfl)
theorem dX6_deal_108 : decode cX6_deal 108 = .ok (.imul, 1) := dk_104 (dk_at dksX6_deal_4 13 rfl rfl)
theorem dX6_deal_109 : decode cX6_deal 109 = .ok (.iadd, 1) := dk_96 (dk_at dksX6_deal_4 14 rfl rfl)
theorem dX6_deal_110 : decode cX6_deal 110 = .ok (.iconst 1, 1) := dk_4 (dk_at dksX6_deal_4 15 rfl rfl)
theorem dX6_deal_111 : decode cX6_deal 111 = .ok (.iadd, 1) := dk_96 (dk_at dksX6_deal_4 16 rfl rfl)
theorem dX6_deal_112 : decode cX6_deal 112 = .ok (.iaload, 1) := dk_46 (dk_at dksX6_deal_4 17 rfl rfl)
theorem dX6_deal_113 : decode cX6_deal 113 = .ok (.iadd, 1) := dk_96 (dk_at dksX6_deal_4 18 rfl rfl)
theorem dX6_deal_114 : decode cX6_deal 114 = .ok (.istore 7, 2) := dk_54 7 (dk_at dksX6_deal_4 19 rfl rfl)
theorem dX6_deal_116 : decode cX6_deal 116 = .ok (.iinc 8 1, 3) := dk_132 8 1 (dk_at dksX6_deal_4 21 rfl rfl)
theorem dX6_deal_119 : decode cX6_deal 119 = .ok (.goto (-63), 3) := dk_167 255 193 (dk_at dksX6_deal_5 0 rfl rfl)
theorem dX6_deal_122 : decode cX6_deal 122 = .ok (.iload 6, 2) := dk_21 6 (dk_at dksX6_deal_5 3 rfl rfl)
theorem dX6_deal_124 : decode cX6_deal 124 = .ok (.aload_n 0, 1) := dk_42 (dk_at dksX6_deal_5 5 rfl rfl)
theorem dX6_deal_125 : decode cX6_deal 125 = .ok (.getfield 7, 3) := dk_180 0 7 (dk_at dksX6_deal_5 6 rfl rfl)
theorem dX6_deal_128 : decode cX6_deal 128 = .ok (.bipush 12, 2) := dk_16 12 (dk_at dksX6_deal_5 9 rfl rfl)
theorem dX6_deal_130 : decode cX6_deal 130 = .ok (.iload_n 1, 1) := dk_27 (dk_at dksX6_deal_5 11 rfl rfl)
theorem dX6_deal_131 : decode cX6_deal 131 = .ok (.iadd, 1) := dk_96 (dk_at dksX6_deal_5 12 rfl rfl)
theorem dX6_deal_132 : decode cX6_deal 132 = .ok (.iaload, 1) := dk_46 (dk_at dksX6_deal_5 13 rfl rfl)
theorem dX6_deal_133 : decode cX6_deal 133 = .ok (.if_icmp .ge 6, 3) := dk_162 0 6 (dk_at dksX6_deal_5 14 rfl rfl)
theorem dX6_deal_136 : decode cX6_deal 136 = .ok (.goto 44, 3) := dk_167 0 44 (dk_at dksX6_deal_5 17 rfl rfl)
theorem dX6_deal_139 : decode cX6_deal 139 = .ok (.iload_n 3, 1) := dk_29 (dk_at dksX6_deal_5 20 rfl rfl)
theorem dX6_deal_140 : decode cX6_deal 140 = .ok (.iconst (-1), 1) := dk_2 (dk_at dksX6_deal_5 21 rfl rfl)
theorem dX6_deal_141 : decode cX6_deal 141 = .ok (.if_icmp .eq 32, 3) := dk_159 0 32 (dk_at dksX6_deal_6 0 rfl rfl)
theorem dX6_deal_144 : decode cX6_deal 144 = .ok (.iload 7, 2) := dk_21 7 (dk_at dksX6_deal_6 3 rfl rfl)
theorem dX6_deal_146 : decode cX6_deal 146 = .ok (.iload 4, 2) := dk_21 4 (dk_at dksX6_deal_6 5 rfl rfl)
theorem dX6_deal_148 : decode cX6_deal 148 = .ok (.if_icmp .gt 32, 3) := dk_163 0 32 (dk_at dksX6_deal_6 7 rfl rfl)
theorem dX6_deal_151 : decode cX6_deal 151 = .ok (.iload 7, 2) := dk_21 7 (dk_at dksX6_deal_6 10 rfl rfl)
theorem dX6_deal_153 : decode cX6_deal 153 = .ok (.iload 4, 2) := dk_21 4 (dk_at dksX6_deal_6 12 rfl rfl)
theorem dX6_deal_155 : decode cX6_deal 155 = .ok (.if_icmp .ne 18, 3) := dk_160 0 18 (dk_at dksX6_deal_6 14 rfl rfl)
theorem dX6_deal_158 : decode cX6_deal 158 = .ok (.iload 5, 2) := dk_21 5 (dk_at dksX6_deal_6 17 rfl rfl)
theorem dX6_deal_160 : decode cX6_deal 160 = .ok (.invokestatic 241, 3) := dk_184 0 241 (dk_at dksX6_deal_6 19 rfl rfl)
theorem dX6_deal_163 : decode cX6_deal 163 = .ok (.iload_n 3, 1) := dk_29 (dk_at dksX6_deal_6 22 rfl rfl)
theorem dX6_deal_164 : decode cX6_deal 164 = .ok (.invokestatic 241, 3) := dk_184 0 241 (dk_at dksX6_deal_7 0 rfl rfl)
theorem dX6_deal_167 : decode cX6_deal 167 = .ok (.if_icmp .lt 6, 3) := dk_161 0 6 (dk_at dksX6_deal_7 3 rfl rfl)
theorem dX6_deal_170 : decode cX6_deal 170 = .ok (.goto 10, 3) := dk_167 0 10 (dk_at dksX6_deal_7 6 rfl rfl)
theorem dX6_deal_173 : decode cX6_deal 173 = .ok (.iload 5, 2) := dk_21 5 (dk_at dksX6_deal_7 9 rfl rfl)
theorem dX6_deal_175 : decode cX6_deal 175 = .ok (.istore_n 3, 1) := dk_62 (dk_at dksX6_deal_7 11 rfl rfl)
theorem dX6_deal_176 : decode cX6_deal 176 = .ok (.iload 7, 2) := dk_21 7 (dk_at dksX6_deal_7 12 rfl rfl)
theorem dX6_deal_178 : decode cX6_deal 178 = .ok (.istore 4, 2) := dk_54 4 (dk_at dksX6_deal_7 14 rfl rfl)
theorem dX6_deal_180 : decode cX6_deal 180 = .ok (.iinc 5 1, 3) := dk_132 5 1 (dk_at dksX6_deal_7 16 rfl rfl)
theorem dX6_deal_183 : decode cX6_deal 183 = .ok (.goto (-149), 3) := dk_167 255 107 (dk_at dksX6_deal_7 19 rfl rfl)
theorem dX6_deal_186 : decode cX6_deal 186 = .ok (.iload_n 3, 1) := dk_29 (dk_at dksX6_deal_7 22 rfl rfl)
theorem dX6_deal_187 : decode cX6_deal 187 = .ok (.iconst (-1), 1) := dk_2 (dk_at dksX6_deal_7 23 rfl rfl)
theorem dX6_deal_188 : decode cX6_deal 188 = .ok (.if_icmp .eq 7, 3) := dk_159 0 7 (dk_at dksX6_deal_8 0 rfl rfl)
theorem dX6_deal_191 : decode cX6_deal 191 = .ok (.iload_n 2, 1) := dk_28 (dk_at dksX6_deal_8 3 rfl rfl)
theorem dX6_deal_192 : decode cX6_deal 192 = .ok (.ifCond .eq 7, 3) := dk_153 0 7 (dk_at dksX6_deal_8 4 rfl rfl)
theorem dX6_deal_195 : decode cX6_deal 195 = .ok (.iload_n 3, 1) := dk_29 (dk_at dksX6_deal_8 7 rfl rfl)
theorem dX6_deal_196 : decode cX6_deal 196 = .ok (.goto 5, 3) := dk_167 0 5 (dk_at dksX6_deal_8 8 rfl rfl)
theorem dX6_deal_199 : decode cX6_deal 199 = .ok (.iload 4, 2) := dk_21 4 (dk_at dksX6_deal_8 11 rfl rfl)
theorem dX6_deal_201 : decode cX6_deal 201 = .ok (.ireturn, 1) := dk_172 (dk_at dksX6_deal_8 13 rfl rfl)
abbrev cX6_bits : ByteArray := prog_23_method_54_code
def yX6_bits : MethodName := ⟨RX6, "bits", "(I)I"⟩
def dkwX6_bits_1 : List UInt8 := [27, 172]
abbrev dktX6_bits_1 : List UInt8 := dkwX6_bits_1 ++ []
def dkwX6_bits_0 : List UInt8 := [3, 60, 3, 61, 28, 16, 12, 162, 0, 17, 27, 26, 28, 122, 4, 126, 96, 60, 132, 2, 1, 167, 255, 239]
abbrev dktX6_bits_0 : List UInt8 := dkwX6_bits_0 ++ dktX6_bits_1
theorem dksX6_bits_0 : cX6_bits.data.toList.drop 0 = dktX6_bits_0 := by decide +kernel
theorem dksX6_bits_1 : cX6_bits.data.toList.drop 24 = dktX6_bits_1 := dk_seg dksX6_bits_0 24 rfl rfl
theorem dX6_bits_0 : decode cX6_bits 0 = .ok (.iconst 0, 1) := dk_3 (dk_at dksX6_bits_0 0 rfl rfl)
theorem dX6_bits_1 : decode cX6_bits 1 = .ok (.istore_n 1, 1) := dk_60 (dk_at dksX6_bits_0 1 rfl rfl)
theorem dX6_bits_2 : decode cX6_bits 2 = .ok (.iconst 0, 1) := dk_3 (dk_at dksX6_bits_0 2 rfl rfl)
theorem dX6_bits_3 : decode cX6_bits 3 = .ok (.istore_n 2, 1) := dk_61 (dk_at dksX6_bits_0 3 rfl rfl)
theorem dX6_bits_4 : decode cX6_bits 4 = .ok (.iload_n 2, 1) := dk_28 (dk_at dksX6_bits_0 4 rfl rfl)
theorem dX6_bits_5 : decode cX6_bits 5 = .ok (.bipush 12, 2) := dk_16 12 (dk_at dksX6_bits_0 5 rfl rfl)
theorem dX6_bits_7 : decode cX6_bits 7 = .ok (.if_icmp .ge 17, 3) := dk_162 0 17 (dk_at dksX6_bits_0 7 rfl rfl)
theorem dX6_bits_10 : decode cX6_bits 10 = .ok (.iload_n 1, 1) := dk_27 (dk_at dksX6_bits_0 10 rfl rfl)
theorem dX6_bits_11 : decode cX6_bits 11 = .ok (.iload_n 0, 1) := dk_26 (dk_at dksX6_bits_0 11 rfl rfl)
theorem dX6_bits_12 : decode cX6_bits 12 = .ok (.iload_n 2, 1) := dk_28 (dk_at dksX6_bits_0 12 rfl rfl)
theorem dX6_bits_13 : decode cX6_bits 13 = .ok (.ishr, 1) := dk_122 (dk_at dksX6_bits_0 13 rfl rfl)
theorem dX6_bits_14 : decode cX6_bits 14 = .ok (.iconst 1, 1) := dk_4 (dk_at dksX6_bits_0 14 rfl rfl)
theorem dX6_bits_15 : decode cX6_bits 15 = .ok (.iand, 1) := dk_126 (dk_at dksX6_bits_0 15 rfl rfl)
theorem dX6_bits_16 : decode cX6_bits 16 = .ok (.iadd, 1) := dk_96 (dk_at dksX6_bits_0 16 rfl rfl)
theorem dX6_bits_17 : decode cX6_bits 17 = .ok (.istore_n 1, 1) := dk_60 (dk_at dksX6_bits_0 17 rfl rfl)
theorem dX6_bits_18 : decode cX6_bits 18 = .ok (.iinc 2 1, 3) := dk_132 2 1 (dk_at dksX6_bits_0 18 rfl rfl)
theorem dX6_bits_21 : decode cX6_bits 21 = .ok (.goto (-17), 3) := dk_167 255 239 (dk_at dksX6_bits_0 21 rfl rfl)
theorem dX6_bits_24 : decode cX6_bits 24 = .ok (.iload_n 1, 1) := dk_27 (dk_at dksX6_bits_1 0 rfl rfl)
theorem dX6_bits_25 : decode cX6_bits 25 = .ok (.ireturn, 1) := dk_172 (dk_at dksX6_bits_1 1 rfl rfl)
abbrev cX6_plan : ByteArray := prog_23_method_58_code
def yX6_plan : MethodName := ⟨RX6, "plan", "(IIZ)I"⟩
def dkwX6_plan_18 : List UInt8 := [27, 96, 46, 161, 0, 6, 21, 6, 172, 132, 6, 1, 167, 255, 191, 3, 172]
abbrev dktX6_plan_18 : List UInt8 := dkwX6_plan_18 ++ []
def dkwX6_plan_17 : List UInt8 := [159, 0, 33, 21, 7, 42, 180, 0, 35, 42, 3, 21, 6, 182, 0, 250, 46, 96, 42, 180, 0, 7, 16, 12]
abbrev dktX6_plan_17 : List UInt8 := dkwX6_plan_17 ++ dktX6_plan_18
def dkwX6_plan_16 : List UInt8 := [120, 162, 0, 60, 21, 5, 158, 0, 55, 42, 3, 21, 6, 28, 182, 0, 247, 54, 7, 21, 7, 2]
abbrev dktX6_plan_16 : List UInt8 := dkwX6_plan_16 ++ dktX6_plan_17
def dkwX6_plan_15 : List UInt8 := [16, 60, 164, 0, 5, 2, 172, 29, 154, 0, 6, 21, 5, 172, 3, 54, 6, 21, 6, 4, 42, 180, 0, 244]
abbrev dktX6_plan_15 : List UInt8 := dkwX6_plan_15 ++ dktX6_plan_16
def dkwX6_plan_14 : List UInt8 := [180, 0, 32, 21, 6, 46, 79, 132, 7, 1, 167, 255, 173, 132, 6, 1, 167, 255, 149, 167, 255, 85, 21, 5]
abbrev dktX6_plan_14 : List UInt8 := dkwX6_plan_14 ++ dktX6_plan_15
def dkwX6_plan_13 : List UInt8 := [180, 0, 32, 21, 6, 21, 8, 42, 180, 0, 32, 21, 6, 46, 164, 0, 8, 21, 8, 167, 0, 10, 42]
abbrev dktX6_plan_13 : List UInt8 := dkwX6_plan_13 ++ dktX6_plan_14
def dkwX6_plan_12 : List UInt8 := [167, 0, 52, 21, 8, 42, 180, 0, 35, 42, 21, 6, 21, 7, 182, 0, 250, 46, 96, 54, 8, 42]
abbrev dktX6_plan_12 : List UInt8 := dkwX6_plan_12 ++ dktX6_plan_13
def dkwX6_plan_11 : List UInt8 := [180, 0, 244, 120, 162, 0, 78, 42, 21, 6, 21, 7, 28, 182, 0, 247, 54, 8, 21, 8, 2, 160, 0, 6]
abbrev dktX6_plan_11 : List UInt8 := dkwX6_plan_11 ++ dktX6_plan_12
def dkwX6_plan_10 : List UInt8 := [21, 6, 21, 4, 162, 0, 106, 42, 180, 0, 32, 21, 6, 3, 79, 3, 54, 7, 21, 7, 4, 42]
abbrev dktX6_plan_10 : List UInt8 := dkwX6_plan_10 ++ dktX6_plan_11
def dkwX6_plan_9 : List UInt8 := [42, 180, 0, 35, 21, 6, 42, 180, 0, 32, 21, 6, 46, 79, 132, 6, 1, 167, 255, 232, 3, 54, 6]
abbrev dktX6_plan_9 : List UInt8 := dkwX6_plan_9 ++ dktX6_plan_10
def dkwX6_plan_8 : List UInt8 := [180, 0, 7, 16, 12, 27, 96, 46, 162, 0, 152, 132, 5, 1, 3, 54, 6, 21, 6, 21, 4, 162, 0, 23]
abbrev dktX6_plan_8 : List UInt8 := dkwX6_plan_8 ++ dktX6_plan_9
def dkwX6_plan_7 : List UInt8 := [132, 5, 1, 167, 255, 238, 3, 54, 5, 21, 5, 16, 60, 163, 0, 170, 42, 180, 0, 32, 3, 46, 42]
abbrev dktX6_plan_7 : List UInt8 := dkwX6_plan_7 ++ dktX6_plan_8
def dkwX6_plan_6 : List UInt8 := [132, 5, 1, 167, 255, 238, 3, 54, 5, 21, 5, 21, 4, 162, 0, 17, 42, 180, 0, 32, 21, 5, 3, 79]
abbrev dktX6_plan_6 : List UInt8 := dkwX6_plan_6 ++ dktX6_plan_7
def dkwX6_plan_5 : List UInt8 := [167, 255, 186, 4, 54, 4, 3, 54, 5, 21, 5, 42, 180, 0, 244, 162, 0, 15, 21, 4, 7, 104, 54, 4]
abbrev dktX6_plan_5 : List UInt8 := dkwX6_plan_5 ++ dktX6_plan_6
def dkwX6_plan_4 : List UInt8 := [180, 0, 7, 6, 46, 3, 182, 0, 230, 79, 42, 89, 180, 0, 244, 4, 96, 181, 0, 244, 132, 4, 1]
abbrev dktX6_plan_4 : List UInt8 := dkwX6_plan_4 ++ dktX6_plan_5
def dkwX6_plan_3 : List UInt8 := [182, 0, 203, 27, 159, 0, 6, 167, 0, 36, 42, 180, 0, 29, 42, 180, 0, 244, 42, 21, 4, 27, 42]
abbrev dktX6_plan_3 : List UInt8 := dkwX6_plan_3 ++ dktX6_plan_4
def dkwX6_plan_2 : List UInt8 := [21, 4, 42, 180, 0, 7, 5, 46, 162, 0, 65, 42, 180, 0, 244, 16, 6, 162, 0, 56, 42, 21, 4, 5]
abbrev dktX6_plan_2 : List UInt8 := dkwX6_plan_2 ++ dktX6_plan_3
def dkwX6_plan_1 : List UInt8 := [167, 0, 4, 3, 181, 0, 41, 42, 180, 0, 41, 158, 0, 5, 3, 172, 42, 3, 181, 0, 244, 3, 54, 4]
abbrev dktX6_plan_1 : List UInt8 := dkwX6_plan_1 ++ dktX6_plan_2
def dkwX6_plan_0 : List UInt8 := [42, 42, 27, 182, 0, 200, 154, 0, 7, 4, 167, 0, 18, 28, 4, 16, 6, 184, 0, 44, 154, 0, 7, 5]
abbrev dktX6_plan_0 : List UInt8 := dkwX6_plan_0 ++ dktX6_plan_1
theorem dksX6_plan_0 : cX6_plan.data.toList.drop 0 = dktX6_plan_0 := by decide +kernel
theorem dksX6_plan_1 : cX6_plan.data.toList.drop 24 = dktX6_plan_1 := dk_seg dksX6_plan_0 24 rfl rfl
theorem dksX6_plan_2 : cX6_plan.data.toList.drop 48 = dktX6_plan_2 := dk_seg dksX6_plan_1 24 rfl rfl
theorem dksX6_plan_3 : cX6_plan.data.toList.drop 72 = dktX6_plan_3 := dk_seg dksX6_plan_2 24 rfl rfl
theorem dksX6_plan_4 : cX6_plan.data.toList.drop 95 = dktX6_plan_4 := dk_seg dksX6_plan_3 23 rfl rfl
theorem dksX6_plan_5 : cX6_plan.data.toList.drop 118 = dktX6_plan_5 := dk_seg dksX6_plan_4 23 rfl rfl
theorem dksX6_plan_6 : cX6_plan.data.toList.drop 142 = dktX6_plan_6 := dk_seg dksX6_plan_5 24 rfl rfl
theorem dksX6_plan_7 : cX6_plan.data.toList.drop 166 = dktX6_plan_7 := dk_seg dksX6_plan_6 24 rfl rfl
theorem dksX6_plan_8 : cX6_plan.data.toList.drop 189 = dktX6_plan_8 := dk_seg dksX6_plan_7 23 rfl rfl
theorem dksX6_plan_9 : cX6_plan.data.toList.drop 213 = dktX6_plan_9 := dk_seg dksX6_plan_8 24 rfl rfl
theorem dksX6_plan_10 : cX6_plan.data.toList.drop 236 = dktX6_plan_10 := dk_seg dksX6_plan_9 23 rfl rfl
theorem dksX6_plan_11 : cX6_plan.data.toList.drop 258 = dktX6_plan_11 := dk_seg dksX6_plan_10 22 rfl rfl
theorem dksX6_plan_12 : cX6_plan.data.toList.drop 282 = dktX6_plan_12 := dk_seg dksX6_plan_11 24 rfl rfl
theorem dksX6_plan_13 : cX6_plan.data.toList.drop 304 = dktX6_plan_13 := dk_seg dksX6_plan_12 22 rfl rfl
theorem dksX6_plan_14 : cX6_plan.data.toList.drop 327 = dktX6_plan_14 := dk_seg dksX6_plan_13 23 rfl rfl
theorem dksX6_plan_15 : cX6_plan.data.toList.drop 351 = dktX6_plan_15 := dk_seg dksX6_plan_14 24 rfl rfl
theorem dksX6_plan_16 : cX6_plan.data.toList.drop 375 = dktX6_plan_16 := dk_seg dksX6_plan_15 24 rfl rfl
theorem dksX6_plan_17 : cX6_plan.data.toList.drop 397 = dktX6_plan_17 := dk_seg dksX6_plan_16 22 rfl rfl
theorem dksX6_plan_18 : cX6_plan.data.toList.drop 421 = dktX6_plan_18 := dk_seg dksX6_plan_17 24 rfl rfl
theorem dX6_plan_0 : decode cX6_plan 0 = .ok (.aload_n 0, 1) := dk_42 (dk_at dksX6_plan_0 0 rfl rfl)
theorem dX6_plan_1 : decode cX6_plan 1 = .ok (.aload_n 0, 1) := dk_42 (dk_at dksX6_plan_0 1 rfl rfl)
theorem dX6_plan_2 : decode cX6_plan 2 = .ok (.iload_n 1, 1) := dk_27 (dk_at dksX6_plan_0 2 rfl rfl)
theorem dX6_plan_3 : decode cX6_plan 3 = .ok (.invokevirtual 200, 3) := dk_182 0 200 (dk_at dksX6_plan_0 3 rfl rfl)
theorem dX6_plan_6 : decode cX6_plan 6 = .ok (.ifCond .ne 7, 3) := dk_154 0 7 (dk_at dksX6_plan_0 6 rfl rfl)
theorem dX6_plan_9 : decode cX6_plan 9 = .ok (.iconst 1, 1) := dk_4 (dk_at dksX6_plan_0 9 rfl rfl)
theorem dX6_plan_10 : decode cX6_plan 10 = .ok (.goto 18, 3) := dk_167 0 18 (dk_at dksX6_plan_0 10 rfl rfl)
theorem dX6_plan_13 : decode cX6_plan 13 = .ok (.iload_n 2, 1) := dk_28 (dk_at dksX6_plan_0 13 rfl rfl)
theorem dX6_plan_14 : decode cX6_plan 14 = .ok (.iconst 1, 1) := dk_4 (dk_at dksX6_plan_0 14 rfl rfl)
theorem dX6_plan_15 : decode cX6_plan 15 = .ok (.bipush 6, 2) := dk_16 6 (dk_at dksX6_plan_0 15 rfl rfl)
theorem dX6_plan_17 : decode cX6_plan 17 = .ok (.invokestatic 44, 3) := dk_184 0 44 (dk_at dksX6_plan_0 17 rfl rfl)
theorem dX6_plan_20 : decode cX6_plan 20 = .ok (.ifCond .ne 7, 3) := dk_154 0 7 (dk_at dksX6_plan_0 20 rfl rfl)
theorem dX6_plan_23 : decode cX6_plan 23 = .ok (.iconst 2, 1) := dk_5 (dk_at dksX6_plan_0 23 rfl rfl)
theorem dX6_plan_24 : decode cX6_plan 24 = .ok (.goto 4, 3) := dk_167 0 4 (dk_at dksX6_plan_1 0 rfl rfl)
theorem dX6_plan_27 : decode cX6_plan 27 = .ok (.iconst 0, 1) := dk_3 (dk_at dksX6_plan_1 3 rfl rfl)
theorem dX6_plan_28 : decode cX6_plan 28 = .ok (.putfield 41, 3) := dk_181 0 41 (dk_at dksX6_plan_1 4 rfl rfl)
theorem dX6_plan_31 : decode cX6_plan 31 = .ok (.aload_n 0, 1) := dk_42 (dk_at dksX6_plan_1 7 rfl rfl)
theorem dX6_plan_32 : decode cX6_plan 32 = .ok (.getfield 41, 3) := dk_180 0 41 (dk_at dksX6_plan_1 8 rfl rfl)
theorem dX6_plan_35 : decode cX6_plan 35 = .ok (.ifCond .le 5, 3) := dk_158 0 5 (dk_at dksX6_plan_1 11 rfl rfl)
theorem dX6_plan_38 : decode cX6_plan 38 = .ok (.iconst 0, 1) := dk_3 (dk_at dksX6_plan_1 14 rfl rfl)
theorem dX6_plan_39 : decode cX6_plan 39 = .ok (.ireturn, 1) := dk_172 (dk_at dksX6_plan_1 15 rfl rfl)
theorem dX6_plan_40 : decode cX6_plan 40 = .ok (.aload_n 0, 1) := dk_42 (dk_at dksX6_plan_1 16 rfl rfl)
theorem dX6_plan_41 : decode cX6_plan 41 = .ok (.iconst 0, 1) := dk_3 (dk_at dksX6_plan_1 17 rfl rfl)
theorem dX6_plan_42 : decode cX6_plan 42 = .ok (.putfield 244, 3) := dk_181 0 244 (dk_at dksX6_plan_1 18 rfl rfl)
theorem dX6_plan_45 : decode cX6_plan 45 = .ok (.iconst 0, 1) := dk_3 (dk_at dksX6_plan_1 21 rfl rfl)
theorem dX6_plan_46 : decode cX6_plan 46 = .ok (.istore 4, 2) := dk_54 4 (dk_at dksX6_plan_1 22 rfl rfl)
theorem dX6_plan_48 : decode cX6_plan 48 = .ok (.iload 4, 2) := dk_21 4 (dk_at dksX6_plan_2 0 rfl rfl)
theorem dX6_plan_50 : decode cX6_plan 50 = .ok (.aload_n 0, 1) := dk_42 (dk_at dksX6_plan_2 2 rfl rfl)
theorem dX6_plan_51 : decode cX6_plan 51 = .ok (.getfield 7, 3) := dk_180 0 7 (dk_at dksX6_plan_2 3 rfl rfl)
theorem dX6_plan_54 : decode cX6_plan 54 = .ok (.iconst 2, 1) := dk_5 (dk_at dksX6_plan_2 6 rfl rfl)
theorem dX6_plan_55 : decode cX6_plan 55 = .ok (.iaload, 1) := dk_46 (dk_at dksX6_plan_2 7 rfl rfl)
theorem dX6_plan_56 : decode cX6_plan 56 = .ok (.if_icmp .ge 65, 3) := dk_162 0 65 (dk_at dksX6_plan_2 8 rfl rfl)
theorem dX6_plan_59 : decode cX6_plan 59 = .ok (.aload_n 0, 1) := dk_42 (dk_at dksX6_plan_2 11 rfl rfl)
theorem dX6_plan_60 : decode cX6_plan 60 = .ok (.getfield 244, 3) := dk_180 0 244 (dk_at dksX6_plan_2 12 rfl rfl)
theorem dX6_plan_63 : decode cX6_plan 63 = .ok (.bipush 6, 2) := dk_16 6 (dk_at dksX6_plan_2 15 rfl rfl)
theorem dX6_plan_65 : decode cX6_plan 65 = .ok (.if_icmp .ge 56, 3) := dk_162 0 56 (dk_at dksX6_plan_2 17 rfl rfl)
theorem dX6_plan_68 : decode cX6_plan 68 = .ok (.aload_n 0, 1) := dk_42 (dk_at dksX6_plan_2 20 rfl rfl)
theorem dX6_plan_69 : decode cX6_plan 69 = .ok (.iload 4, 2) := dk_21 4 (dk_at dksX6_plan_2 21 rfl rfl)
theorem dX6_plan_71 : decode cX6_plan 71 = .ok (.iconst 2, 1) := dk_5 (dk_at dksX6_plan_2 23 rfl rfl)
theorem dX6_plan_72 : decode cX6_plan 72 = .ok (.invokevirtual 203, 3) := dk_182 0 203 (dk_at dksX6_plan_3 0 rfl rfl)
theorem dX6_plan_75 : decode cX6_plan 75 = .ok (.iload_n 1, 1) := dk_27 (dk_at dksX6_plan_3 3 rfl rfl)
theorem dX6_plan_76 : decode cX6_plan 76 = .ok (.if_icmp .eq 6, 3) := dk_159 0 6 (dk_at dksX6_plan_3 4 rfl rfl)
theorem dX6_plan_79 : decode cX6_plan 79 = .ok (.goto 36, 3) := dk_167 0 36 (dk_at dksX6_plan_3 7 rfl rfl)
theorem dX6_plan_82 : decode cX6_plan 82 = .ok (.aload_n 0, 1) := dk_42 (dk_at dksX6_plan_3 10 rfl rfl)
theorem dX6_plan_83 : decode cX6_plan 83 = .ok (.getfield 29, 3) := dk_180 0 29 (dk_at dksX6_plan_3 11 rfl rfl)
theorem dX6_plan_86 : decode cX6_plan 86 = .ok (.aload_n 0, 1) := dk_42 (dk_at dksX6_plan_3 14 rfl rfl)
theorem dX6_plan_87 : decode cX6_plan 87 = .ok (.getfield 244, 3) := dk_180 0 244 (dk_at dksX6_plan_3 15 rfl rfl)
theorem dX6_plan_90 : decode cX6_plan 90 = .ok (.aload_n 0, 1) := dk_42 (dk_at dksX6_plan_3 18 rfl rfl)
theorem dX6_plan_91 : decode cX6_plan 91 = .ok (.iload 4, 2) := dk_21 4 (dk_at dksX6_plan_3 19 rfl rfl)
theorem dX6_plan_93 : decode cX6_plan 93 = .ok (.iload_n 1, 1) := dk_27 (dk_at dksX6_plan_3 21 rfl rfl)
theorem dX6_plan_94 : decode cX6_plan 94 = .ok (.aload_n 0, 1) := dk_42 (dk_at dksX6_plan_3 22 rfl rfl)
theorem dX6_plan_95 : decode cX6_plan 95 = .ok (.getfield 7, 3) := dk_180 0 7 (dk_at dksX6_plan_4 0 rfl rfl)
theorem dX6_plan_98 : decode cX6_plan 98 = .ok (.iconst 3, 1) := dk_6 (dk_at dksX6_plan_4 3 rfl rfl)
theorem dX6_plan_99 : decode cX6_plan 99 = .ok (.iaload, 1) := dk_46 (dk_at dksX6_plan_4 4 rfl rfl)
theorem dX6_plan_100 : decode cX6_plan 100 = .ok (.iconst 0, 1) := dk_3 (dk_at dksX6_plan_4 5 rfl rfl)
theorem dX6_plan_101 : decode cX6_plan 101 = .ok (.invokevirtual 230, 3) := dk_182 0 230 (dk_at dksX6_plan_4 6 rfl rfl)
theorem dX6_plan_104 : decode cX6_plan 104 = .ok (.iastore, 1) := dk_79 (dk_at dksX6_plan_4 9 rfl rfl)
theorem dX6_plan_105 : decode cX6_plan 105 = .ok (.aload_n 0, 1) := dk_42 (dk_at dksX6_plan_4 10 rfl rfl)
theorem dX6_plan_106 : decode cX6_plan 106 = .ok (.dup, 1) := dk_89 (dk_at dksX6_plan_4 11 rfl rfl)
theorem dX6_plan_107 : decode cX6_plan 107 = .ok (.getfield 244, 3) := dk_180 0 244 (dk_at dksX6_plan_4 12 rfl rfl)
theorem dX6_plan_110 : decode cX6_plan 110 = .ok (.iconst 1, 1) := dk_4 (dk_at dksX6_plan_4 15 rfl rfl)
theorem dX6_plan_111 : decode cX6_plan 111 = .ok (.iadd, 1) := dk_96 (dk_at dksX6_plan_4 16 rfl rfl)
theorem dX6_plan_112 : decode cX6_plan 112 = .ok (.putfield 244, 3) := dk_181 0 244 (dk_at dksX6_plan_4 17 rfl rfl)
theorem dX6_plan_115 : decode cX6_plan 115 = .ok (.iinc 4 1, 3) := dk_132 4 1 (dk_at dksX6_plan_4 20 rfl rfl)
theorem dX6_plan_118 : decode cX6_plan 118 = .ok (.goto (-70), 3) := dk_167 255 186 (dk_at dksX6_plan_5 0 rfl rfl)
theorem dX6_plan_121 : decode cX6_plan 121 = .ok (.iconst 1, 1) := dk_4 (dk_at dksX6_plan_5 3 rfl rfl)
theorem dX6_plan_122 : decode cX6_plan 122 = .ok (.istore 4, 2) := dk_54 4 (dk_at dksX6_plan_5 4 rfl rfl)
theorem dX6_plan_124 : decode cX6_plan 124 = .ok (.iconst 0, 1) := dk_3 (dk_at dksX6_plan_5 6 rfl rfl)
theorem dX6_plan_125 : decode cX6_plan 125 = .ok (.istore 5, 2) := dk_54 5 (dk_at dksX6_plan_5 7 rfl rfl)
theorem dX6_plan_127 : decode cX6_plan 127 = .ok (.iload 5, 2) := dk_21 5 (dk_at dksX6_plan_5 9 rfl rfl)
theorem dX6_plan_129 : decode cX6_plan 129 = .ok (.aload_n 0, 1) := dk_42 (dk_at dksX6_plan_5 11 rfl rfl)
theorem dX6_plan_130 : decode cX6_plan 130 = .ok (.getfield 244, 3) := dk_180 0 244 (dk_at dksX6_plan_5 12 rfl rfl)
theorem dX6_plan_133 : decode cX6_plan 133 = .ok (.if_icmp .ge 15, 3) := dk_162 0 15 (dk_at dksX6_plan_5 15 rfl rfl)
theorem dX6_plan_136 : decode cX6_plan 136 = .ok (.iload 4, 2) := dk_21 4 (dk_at dksX6_plan_5 18 rfl rfl)
theorem dX6_plan_138 : decode cX6_plan 138 = .ok (.iconst 4, 1) := dk_7 (dk_at dksX6_plan_5 20 rfl rfl)
theorem dX6_plan_139 : decode cX6_plan 139 = .ok (.imul, 1) := dk_104 (dk_at dksX6_plan_5 21 rfl rfl)
theorem dX6_plan_140 : decode cX6_plan 140 = .ok (.istore 4, 2) := dk_54 4 (dk_at dksX6_plan_5 22 rfl rfl)
theorem dX6_plan_142 : decode cX6_plan 142 = .ok (.iinc 5 1, 3) := dk_132 5 1 (dk_at dksX6_plan_6 0 rfl rfl)
theorem dX6_plan_145 : decode cX6_plan 145 = .ok (.goto (-18), 3) := dk_167 255 238 (dk_at dksX6_plan_6 3 rfl rfl)
theorem dX6_plan_148 : decode cX6_plan 148 = .ok (.iconst 0, 1) := dk_3 (dk_at dksX6_plan_6 6 rfl rfl)
theorem dX6_plan_149 : decode cX6_plan 149 = .ok (.istore 5, 2) := dk_54 5 (dk_at dksX6_plan_6 7 rfl rfl)
theorem dX6_plan_151 : decode cX6_plan 151 = .ok (.iload 5, 2) := dk_21 5 (dk_at dksX6_plan_6 9 rfl rfl)
theorem dX6_plan_153 : decode cX6_plan 153 = .ok (.iload 4, 2) := dk_21 4 (dk_at dksX6_plan_6 11 rfl rfl)
theorem dX6_plan_155 : decode cX6_plan 155 = .ok (.if_icmp .ge 17, 3) := dk_162 0 17 (dk_at dksX6_plan_6 13 rfl rfl)
theorem dX6_plan_158 : decode cX6_plan 158 = .ok (.aload_n 0, 1) := dk_42 (dk_at dksX6_plan_6 16 rfl rfl)
theorem dX6_plan_159 : decode cX6_plan 159 = .ok (.getfield 32, 3) := dk_180 0 32 (dk_at dksX6_plan_6 17 rfl rfl)
theorem dX6_plan_162 : decode cX6_plan 162 = .ok (.iload 5, 2) := dk_21 5 (dk_at dksX6_plan_6 20 rfl rfl)
theorem dX6_plan_164 : decode cX6_plan 164 = .ok (.iconst 0, 1) := dk_3 (dk_at dksX6_plan_6 22 rfl rfl)
theorem dX6_plan_165 : decode cX6_plan 165 = .ok (.iastore, 1) := dk_79 (dk_at dksX6_plan_6 23 rfl rfl)
theorem dX6_plan_166 : decode cX6_plan 166 = .ok (.iinc 5 1, 3) := dk_132 5 1 (dk_at dksX6_plan_7 0 rfl rfl)
theorem dX6_plan_169 : decode cX6_plan 169 = .ok (.goto (-18), 3) := dk_167 255 238 (dk_at dksX6_plan_7 3 rfl rfl)
theorem dX6_plan_172 : decode cX6_plan 172 = .ok (.iconst 0, 1) := dk_3 (dk_at dksX6_plan_7 6 rfl rfl)
theorem dX6_plan_173 : decode cX6_plan 173 = .ok (.istore 5, 2) := dk_54 5 (dk_at dksX6_plan_7 7 rfl rfl)
theorem dX6_plan_175 : decode cX6_plan 175 = .ok (.iload 5, 2) := dk_21 5 (dk_at dksX6_plan_7 9 rfl rfl)
theorem dX6_plan_177 : decode cX6_plan 177 = .ok (.bipush 60, 2) := dk_16 60 (dk_at dksX6_plan_7 11 rfl rfl)
theorem dX6_plan_179 : decode cX6_plan 179 = .ok (.if_icmp .gt 170, 3) := dk_163 0 170 (dk_at dksX6_plan_7 13 rfl rfl)
theorem dX6_plan_182 : decode cX6_plan 182 = .ok (.aload_n 0, 1) := dk_42 (dk_at dksX6_plan_7 16 rfl rfl)
theorem dX6_plan_183 : decode cX6_plan 183 = .ok (.getfield 32, 3) := dk_180 0 32 (dk_at dksX6_plan_7 17 rfl rfl)
theorem dX6_plan_186 : decode cX6_plan 186 = .ok (.iconst 0, 1) := dk_3 (dk_at dksX6_plan_7 20 rfl rfl)
theorem dX6_plan_187 : decode cX6_plan 187 = .ok (.iaload, 1) := dk_46 (dk_at dksX6_plan_7 21 rfl rfl)
theorem dX6_plan_188 : decode cX6_plan 188 = .ok (.aload_n 0, 1) := dk_42 (dk_at dksX6_plan_7 22 rfl rfl)
theorem dX6_plan_189 : decode cX6_plan 189 = .ok (.getfield 7, 3) := dk_180 0 7 (dk_at dksX6_plan_8 0 rfl rfl)
theorem dX6_plan_192 : decode cX6_plan 192 = .ok (.bipush 12, 2) := dk_16 12 (dk_at dksX6_plan_8 3 rfl rfl)
theorem dX6_plan_194 : decode cX6_plan 194 = .ok (.iload_n 1, 1) := dk_27 (dk_at dksX6_plan_8 5 rfl rfl)
theorem dX6_plan_195 : decode cX6_plan 195 = .ok (.iadd, 1) := dk_96 (dk_at dksX6_plan_8 6 rfl rfl)
theorem dX6_plan_196 : decode cX6_plan 196 = .ok (.iaload, 1) := dk_46 (dk_at dksX6_plan_8 7 rfl rfl)
theorem dX6_plan_197 : decode cX6_plan 197 = .ok (.if_icmp .ge 152, 3) := dk_162 0 152 (dk_at dksX6_plan_8 8 rfl rfl)
theorem dX6_plan_200 : decode cX6_plan 200 = .ok (.iinc 5 1, 3) := dk_132 5 1 (dk_at dksX6_plan_8 11 rfl rfl)
theorem dX6_plan_203 : decode cX6_plan 203 = .ok (.iconst 0, 1) := dk_3 (dk_at dksX6_plan_8 14 rfl rfl)
theorem dX6_plan_204 : decode cX6_plan 204 = .ok (.istore 6, 2) := dk_54 6 (dk_at dksX6_plan_8 15 rfl rfl)
theorem dX6_plan_206 : decode cX6_plan 206 = .ok (.iload 6, 2) := dk_21 6 (dk_at dksX6_plan_8 17 rfl rfl)
theorem dX6_plan_208 : decode cX6_plan 208 = .ok (.iload 4, 2) := dk_21 4 (dk_at dksX6_plan_8 19 rfl rfl)
theorem dX6_plan_210 : decode cX6_plan 210 = .ok (.if_icmp .ge 23, 3) := dk_162 0 23 (dk_at dksX6_plan_8 21 rfl rfl)
theorem dX6_plan_213 : decode cX6_plan 213 = .ok (.aload_n 0, 1) := dk_42 (dk_at dksX6_plan_9 0 rfl rfl)
theorem dX6_plan_214 : decode cX6_plan 214 = .ok (.getfield 35, 3) := dk_180 0 35 (dk_at dksX6_plan_9 1 rfl rfl)
theorem dX6_plan_217 : decode cX6_plan 217 = .ok (.iload 6, 2) := dk_21 6 (dk_at dksX6_plan_9 4 rfl rfl)
theorem dX6_plan_219 : decode cX6_plan 219 = .ok (.aload_n 0, 1) := dk_42 (dk_at dksX6_plan_9 6 rfl rfl)
theorem dX6_plan_220 : decode cX6_plan 220 = .ok (.getfield 32, 3) := dk_180 0 32 (dk_at dksX6_plan_9 7 rfl rfl)
theorem dX6_plan_223 : decode cX6_plan 223 = .ok (.iload 6, 2) := dk_21 6 (dk_at dksX6_plan_9 10 rfl rfl)
theorem dX6_plan_225 : decode cX6_plan 225 = .ok (.iaload, 1) := dk_46 (dk_at dksX6_plan_9 12 rfl rfl)
theorem dX6_plan_226 : decode cX6_plan 226 = .ok (.iastore, 1) := dk_79 (dk_at dksX6_plan_9 13 rfl rfl)
theorem dX6_plan_227 : decode cX6_plan 227 = .ok (.iinc 6 1, 3) := dk_132 6 1 (dk_at dksX6_plan_9 14 rfl rfl)
theorem dX6_plan_230 : decode cX6_plan 230 = .ok (.goto (-24), 3) := dk_167 255 232 (dk_at dksX6_plan_9 17 rfl rfl)
theorem dX6_plan_233 : decode cX6_plan 233 = .ok (.iconst 0, 1) := dk_3 (dk_at dksX6_plan_9 20 rfl rfl)
theorem dX6_plan_234 : decode cX6_plan 234 = .ok (.istore 6, 2) := dk_54 6 (dk_at dksX6_plan_9 21 rfl rfl)
theorem dX6_plan_236 : decode cX6_plan 236 = .ok (.iload 6, 2) := dk_21 6 (dk_at dksX6_plan_10 0 rfl rfl)
theorem dX6_plan_238 : decode cX6_plan 238 = .ok (.iload 4, 2) := dk_21 4 (dk_at dksX6_plan_10 2 rfl rfl)
theorem dX6_plan_240 : decode cX6_plan 240 = .ok (.if_icmp .ge 106, 3) := dk_162 0 106 (dk_at dksX6_plan_10 4 rfl rfl)
theorem dX6_plan_243 : decode cX6_plan 243 = .ok (.aload_n 0, 1) := dk_42 (dk_at dksX6_plan_10 7 rfl rfl)
theorem dX6_plan_244 : decode cX6_plan 244 = .ok (.getfield 32, 3) := dk_180 0 32 (dk_at dksX6_plan_10 8 rfl rfl)
theorem dX6_plan_247 : decode cX6_plan 247 = .ok (.iload 6, 2) := dk_21 6 (dk_at dksX6_plan_10 11 rfl rfl)
theorem dX6_plan_249 : decode cX6_plan 249 = .ok (.iconst 0, 1) := dk_3 (dk_at dksX6_plan_10 13 rfl rfl)
theorem dX6_plan_250 : decode cX6_plan 250 = .ok (.iastore, 1) := dk_79 (dk_at dksX6_plan_10 14 rfl rfl)
theorem dX6_plan_251 : decode cX6_plan 251 = .ok (.iconst 0, 1) := dk_3 (dk_at dksX6_plan_10 15 rfl rfl)
theorem dX6_plan_252 : decode cX6_plan 252 = .ok (.istore 7, 2) := dk_54 7 (dk_at dksX6_plan_10 16 rfl rfl)
theorem dX6_plan_254 : decode cX6_plan 254 = .ok (.iload 7, 2) := dk_21 7 (dk_at dksX6_plan_10 18 rfl rfl)
theorem dX6_plan_256 : decode cX6_plan 256 = .ok (.iconst 1, 1) := dk_4 (dk_at dksX6_plan_10 20 rfl rfl)
theorem dX6_plan_257 : decode cX6_plan 257 = .ok (.aload_n 0, 1) := dk_42 (dk_at dksX6_plan_10 21 rfl rfl)
theorem dX6_plan_258 : decode cX6_plan 258 = .ok (.getfield 244, 3) := dk_180 0 244 (dk_at dksX6_plan_11 0 rfl rfl)
theorem dX6_plan_261 : decode cX6_plan 261 = .ok (.ishl, 1) := dk_120 (dk_at dksX6_plan_11 3 rfl rfl)
theorem dX6_plan_262 : decode cX6_plan 262 = .ok (.if_icmp .ge 78, 3) := dk_162 0 78 (dk_at dksX6_plan_11 4 rfl rfl)
theorem dX6_plan_265 : decode cX6_plan 265 = .ok (.aload_n 0, 1) := dk_42 (dk_at dksX6_plan_11 7 rfl rfl)
theorem dX6_plan_266 : decode cX6_plan 266 = .ok (.iload 6, 2) := dk_21 6 (dk_at dksX6_plan_11 8 rfl rfl)
theorem dX6_plan_268 : decode cX6_plan 268 = .ok (.iload 7, 2) := dk_21 7 (dk_at dksX6_plan_11 10 rfl rfl)
theorem dX6_plan_270 : decode cX6_plan 270 = .ok (.iload_n 2, 1) := dk_28 (dk_at dksX6_plan_11 12 rfl rfl)
theorem dX6_plan_271 : decode cX6_plan 271 = .ok (.invokevirtual 247, 3) := dk_182 0 247 (dk_at dksX6_plan_11 13 rfl rfl)
theorem dX6_plan_274 : decode cX6_plan 274 = .ok (.istore 8, 2) := dk_54 8 (dk_at dksX6_plan_11 16 rfl rfl)
theorem dX6_plan_276 : decode cX6_plan 276 = .ok (.iload 8, 2) := dk_21 8 (dk_at dksX6_plan_11 18 rfl rfl)
theorem dX6_plan_278 : decode cX6_plan 278 = .ok (.iconst (-1), 1) := dk_2 (dk_at dksX6_plan_11 20 rfl rfl)
theorem dX6_plan_279 : decode cX6_plan 279 = .ok (.if_icmp .ne 6, 3) := dk_160 0 6 (dk_at dksX6_plan_11 21 rfl rfl)
theorem dX6_plan_282 : decode cX6_plan 282 = .ok (.goto 52, 3) := dk_167 0 52 (dk_at dksX6_plan_12 0 rfl rfl)
theorem dX6_plan_285 : decode cX6_plan 285 = .ok (.iload 8, 2) := dk_21 8 (dk_at dksX6_plan_12 3 rfl rfl)
theorem dX6_plan_287 : decode cX6_plan 287 = .ok (.aload_n 0, 1) := dk_42 (dk_at dksX6_plan_12 5 rfl rfl)
theorem dX6_plan_288 : decode cX6_plan 288 = .ok (.getfield 35, 3) := dk_180 0 35 (dk_at dksX6_plan_12 6 rfl rfl)
theorem dX6_plan_291 : decode cX6_plan 291 = .ok (.aload_n 0, 1) := dk_42 (dk_at dksX6_plan_12 9 rfl rfl)
theorem dX6_plan_292 : decode cX6_plan 292 = .ok (.iload 6, 2) := dk_21 6 (dk_at dksX6_plan_12 10 rfl rfl)
theorem dX6_plan_294 : decode cX6_plan 294 = .ok (.iload 7, 2) := dk_21 7 (dk_at dksX6_plan_12 12 rfl rfl)
theorem dX6_plan_296 : decode cX6_plan 296 = .ok (.invokevirtual 250, 3) := dk_182 0 250 (dk_at dksX6_plan_12 14 rfl rfl)
theorem dX6_plan_299 : decode cX6_plan 299 = .ok (.iaload, 1) := dk_46 (dk_at dksX6_plan_12 17 rfl rfl)
theorem dX6_plan_300 : decode cX6_plan 300 = .ok (.iadd, 1) := dk_96 (dk_at dksX6_plan_12 18 rfl rfl)
theorem dX6_plan_301 : decode cX6_plan 301 = .ok (.istore 8, 2) := dk_54 8 (dk_at dksX6_plan_12 19 rfl rfl)
theorem dX6_plan_303 : decode cX6_plan 303 = .ok (.aload_n 0, 1) := dk_42 (dk_at dksX6_plan_12 21 rfl rfl)
theorem dX6_plan_304 : decode cX6_plan 304 = .ok (.getfield 32, 3) := dk_180 0 32 (dk_at dksX6_plan_13 0 rfl rfl)
theorem dX6_plan_307 : decode cX6_plan 307 = .ok (.iload 6, 2) := dk_21 6 (dk_at dksX6_plan_13 3 rfl rfl)
theorem dX6_plan_309 : decode cX6_plan 309 = .ok (.iload 8, 2) := dk_21 8 (dk_at dksX6_plan_13 5 rfl rfl)
theorem dX6_plan_311 : decode cX6_plan 311 = .ok (.aload_n 0, 1) := dk_42 (dk_at dksX6_plan_13 7 rfl rfl)
theorem dX6_plan_312 : decode cX6_plan 312 = .ok (.getfield 32, 3) := dk_180 0 32 (dk_at dksX6_plan_13 8 rfl rfl)
theorem dX6_plan_315 : decode cX6_plan 315 = .ok (.iload 6, 2) := dk_21 6 (dk_at dksX6_plan_13 11 rfl rfl)
theorem dX6_plan_317 : decode cX6_plan 317 = .ok (.iaload, 1) := dk_46 (dk_at dksX6_plan_13 13 rfl rfl)
theorem dX6_plan_318 : decode cX6_plan 318 = .ok (.if_icmp .le 8, 3) := dk_164 0 8 (dk_at dksX6_plan_13 14 rfl rfl)
theorem dX6_plan_321 : decode cX6_plan 321 = .ok (.iload 8, 2) := dk_21 8 (dk_at dksX6_plan_13 17 rfl rfl)
theorem dX6_plan_323 : decode cX6_plan 323 = .ok (.goto 10, 3) := dk_167 0 10 (dk_at dksX6_plan_13 19 rfl rfl)
theorem dX6_plan_326 : decode cX6_plan 326 = .ok (.aload_n 0, 1) := dk_42 (dk_at dksX6_plan_13 22 rfl rfl)
theorem dX6_plan_327 : decode cX6_plan 327 = .ok (.getfield 32, 3) := dk_180 0 32 (dk_at dksX6_plan_14 0 rfl rfl)
theorem dX6_plan_330 : decode cX6_plan 330 = .ok (.iload 6, 2) := dk_21 6 (dk_at dksX6_plan_14 3 rfl rfl)
theorem dX6_plan_332 : decode cX6_plan 332 = .ok (.iaload, 1) := dk_46 (dk_at dksX6_plan_14 5 rfl rfl)
theorem dX6_plan_333 : decode cX6_plan 333 = .ok (.iastore, 1) := dk_79 (dk_at dksX6_plan_14 6 rfl rfl)
theorem dX6_plan_334 : decode cX6_plan 334 = .ok (.iinc 7 1, 3) := dk_132 7 1 (dk_at dksX6_plan_14 7 rfl rfl)
theorem dX6_plan_337 : decode cX6_plan 337 = .ok (.goto (-83), 3) := dk_167 255 173 (dk_at dksX6_plan_14 10 rfl rfl)
theorem dX6_plan_340 : decode cX6_plan 340 = .ok (.iinc 6 1, 3) := dk_132 6 1 (dk_at dksX6_plan_14 13 rfl rfl)
theorem dX6_plan_343 : decode cX6_plan 343 = .ok (.goto (-107), 3) := dk_167 255 149 (dk_at dksX6_plan_14 16 rfl rfl)
theorem dX6_plan_346 : decode cX6_plan 346 = .ok (.goto (-171), 3) := dk_167 255 85 (dk_at dksX6_plan_14 19 rfl rfl)
theorem dX6_plan_349 : decode cX6_plan 349 = .ok (.iload 5, 2) := dk_21 5 (dk_at dksX6_plan_14 22 rfl rfl)
theorem dX6_plan_351 : decode cX6_plan 351 = .ok (.bipush 60, 2) := dk_16 60 (dk_at dksX6_plan_15 0 rfl rfl)
theorem dX6_plan_353 : decode cX6_plan 353 = .ok (.if_icmp .le 5, 3) := dk_164 0 5 (dk_at dksX6_plan_15 2 rfl rfl)
theorem dX6_plan_356 : decode cX6_plan 356 = .ok (.iconst (-1), 1) := dk_2 (dk_at dksX6_plan_15 5 rfl rfl)
theorem dX6_plan_357 : decode cX6_plan 357 = .ok (.ireturn, 1) := dk_172 (dk_at dksX6_plan_15 6 rfl rfl)
theorem dX6_plan_358 : decode cX6_plan 358 = .ok (.iload_n 3, 1) := dk_29 (dk_at dksX6_plan_15 7 rfl rfl)
theorem dX6_plan_359 : decode cX6_plan 359 = .ok (.ifCond .ne 6, 3) := dk_154 0 6 (dk_at dksX6_plan_15 8 rfl rfl)
theorem dX6_plan_362 : decode cX6_plan 362 = .ok (.iload 5, 2) := dk_21 5 (dk_at dksX6_plan_15 11 rfl rfl)
theorem dX6_plan_364 : decode cX6_plan 364 = .ok (.ireturn, 1) := dk_172 (dk_at dksX6_plan_15 13 rfl rfl)
theorem dX6_plan_365 : decode cX6_plan 365 = .ok (.iconst 0, 1) := dk_3 (dk_at dksX6_plan_15 14 rfl rfl)
theorem dX6_plan_366 : decode cX6_plan 366 = .ok (.istore 6, 2) := dk_54 6 (dk_at dksX6_plan_15 15 rfl rfl)
theorem dX6_plan_368 : decode cX6_plan 368 = .ok (.iload 6, 2) := dk_21 6 (dk_at dksX6_plan_15 17 rfl rfl)
theorem dX6_plan_370 : decode cX6_plan 370 = .ok (.iconst 1, 1) := dk_4 (dk_at dksX6_plan_15 19 rfl rfl)
theorem dX6_plan_371 : decode cX6_plan 371 = .ok (.aload_n 0, 1) := dk_42 (dk_at dksX6_plan_15 20 rfl rfl)
theorem dX6_plan_372 : decode cX6_plan 372 = .ok (.getfield 244, 3) := dk_180 0 244 (dk_at dksX6_plan_15 21 rfl rfl)
theorem dX6_plan_375 : decode cX6_plan 375 = .ok (.ishl, 1) := dk_120 (dk_at dksX6_plan_16 0 rfl rfl)
theorem dX6_plan_376 : decode cX6_plan 376 = .ok (.if_icmp .ge 60, 3) := dk_162 0 60 (dk_at dksX6_plan_16 1 rfl rfl)
theorem dX6_plan_379 : decode cX6_plan 379 = .ok (.iload 5, 2) := dk_21 5 (dk_at dksX6_plan_16 4 rfl rfl)
theorem dX6_plan_381 : decode cX6_plan 381 = .ok (.ifCond .le 55, 3) := dk_158 0 55 (dk_at dksX6_plan_16 6 rfl rfl)
theorem dX6_plan_384 : decode cX6_plan 384 = .ok (.aload_n 0, 1) := dk_42 (dk_at dksX6_plan_16 9 rfl rfl)
theorem dX6_plan_385 : decode cX6_plan 385 = .ok (.iconst 0, 1) := dk_3 (dk_at dksX6_plan_16 10 rfl rfl)
theorem dX6_plan_386 : decode cX6_plan 386 = .ok (.iload 6, 2) := dk_21 6 (dk_at dksX6_plan_16 11 rfl rfl)
theorem dX6_plan_388 : decode cX6_plan 388 = .ok (.iload_n 2, 1) := dk_28 (dk_at dksX6_plan_16 13 rfl rfl)
theorem dX6_plan_389 : decode cX6_plan 389 = .ok (.invokevirtual 247, 3) := dk_182 0 247 (dk_at dksX6_plan_16 14 rfl rfl)
theorem dX6_plan_392 : decode cX6_plan 392 = .ok (.istore 7, 2) := dk_54 7 (dk_at dksX6_plan_16 17 rfl rfl)
theorem dX6_plan_394 : decode cX6_plan 394 = .ok (.iload 7, 2) := dk_21 7 (dk_at dksX6_plan_16 19 rfl rfl)
theorem dX6_plan_396 : decode cX6_plan 396 = .ok (.iconst (-1), 1) := dk_2 (dk_at dksX6_plan_16 21 rfl rfl)
theorem dX6_plan_397 : decode cX6_plan 397 = .ok (.if_icmp .eq 33, 3) := dk_159 0 33 (dk_at dksX6_plan_17 0 rfl rfl)
theorem dX6_plan_400 : decode cX6_plan 400 = .ok (.iload 7, 2) := dk_21 7 (dk_at dksX6_plan_17 3 rfl rfl)
theorem dX6_plan_402 : decode cX6_plan 402 = .ok (.aload_n 0, 1) := dk_42 (dk_at dksX6_plan_17 5 rfl rfl)
theorem dX6_plan_403 : decode cX6_plan 403 = .ok (.getfield 35, 3) := dk_180 0 35 (dk_at dksX6_plan_17 6 rfl rfl)
theorem dX6_plan_406 : decode cX6_plan 406 = .ok (.aload_n 0, 1) := dk_42 (dk_at dksX6_plan_17 9 rfl rfl)
theorem dX6_plan_407 : decode cX6_plan 407 = .ok (.iconst 0, 1) := dk_3 (dk_at dksX6_plan_17 10 rfl rfl)
theorem dX6_plan_408 : decode cX6_plan 408 = .ok (.iload 6, 2) := dk_21 6 (dk_at dksX6_plan_17 11 rfl rfl)
theorem dX6_plan_410 : decode cX6_plan 410 = .ok (.invokevirtual 250, 3) := dk_182 0 250 (dk_at dksX6_plan_17 13 rfl rfl)
theorem dX6_plan_413 : decode cX6_plan 413 = .ok (.iaload, 1) := dk_46 (dk_at dksX6_plan_17 16 rfl rfl)
theorem dX6_plan_414 : decode cX6_plan 414 = .ok (.iadd, 1) := dk_96 (dk_at dksX6_plan_17 17 rfl rfl)
theorem dX6_plan_415 : decode cX6_plan 415 = .ok (.aload_n 0, 1) := dk_42 (dk_at dksX6_plan_17 18 rfl rfl)
theorem dX6_plan_416 : decode cX6_plan 416 = .ok (.getfield 7, 3) := dk_180 0 7 (dk_at dksX6_plan_17 19 rfl rfl)
theorem dX6_plan_419 : decode cX6_plan 419 = .ok (.bipush 12, 2) := dk_16 12 (dk_at dksX6_plan_17 22 rfl rfl)
theorem dX6_plan_421 : decode cX6_plan 421 = .ok (.iload_n 1, 1) := dk_27 (dk_at dksX6_plan_18 0 rfl rfl)
theorem dX6_plan_422 : decode cX6_plan 422 = .ok (.iadd, 1) := dk_96 (dk_at dksX6_plan_18 1 rfl rfl)
theorem dX6_plan_423 : decode cX6_plan 423 = .ok (.iaload, 1) := dk_46 (dk_at dksX6_plan_18 2 rfl rfl)
theorem dX6_plan_424 : decode cX6_plan 424 = .ok (.if_icmp .lt 6, 3) := dk_161 0 6 (dk_at dksX6_plan_18 3 rfl rfl)
theorem dX6_plan_427 : decode cX6_plan 427 = .ok (.iload 6, 2) := dk_21 6 (dk_at dksX6_plan_18 6 rfl rfl)
theorem dX6_plan_429 : decode cX6_plan 429 = .ok (.ireturn, 1) := dk_172 (dk_at dksX6_plan_18 8 rfl rfl)
theorem dX6_plan_430 : decode cX6_plan 430 = .ok (.iinc 6 1, 3) := dk_132 6 1 (dk_at dksX6_plan_18 9 rfl rfl)
theorem dX6_plan_433 : decode cX6_plan 433 = .ok (.goto (-65), 3) := dk_167 255 191 (dk_at dksX6_plan_18 12 rfl rfl)
theorem dX6_plan_436 : decode cX6_plan 436 = .ok (.iconst 0, 1) := dk_3 (dk_at dksX6_plan_18 15 rfl rfl)
theorem dX6_plan_437 : decode cX6_plan 437 = .ok (.ireturn, 1) := dk_172 (dk_at dksX6_plan_18 16 rfl rfl)
abbrev cX6_countedBy : ByteArray := prog_23_method_56_code
def yX6_countedBy : MethodName := ⟨RX6, "countedBy", "(III)I"⟩
def dkwX6_countedBy_3 : List UInt8 := [167, 255, 207, 21, 4, 172]
abbrev dktX6_countedBy_3 : List UInt8 := dkwX6_countedBy_3 ++ []
def dkwX6_countedBy_2 : List UInt8 := [172, 21, 4, 42, 180, 0, 29, 21, 6, 46, 96, 54, 4, 21, 5, 7, 108, 54, 5, 132, 6, 1]
abbrev dktX6_countedBy_2 : List UInt8 := dkwX6_countedBy_2 ++ dktX6_countedBy_3
def dkwX6_countedBy_1 : List UInt8 := [180, 0, 244, 162, 0, 46, 28, 21, 6, 122, 4, 126, 4, 160, 0, 24, 21, 5, 7, 112, 158, 0, 5, 2]
abbrev dktX6_countedBy_1 : List UInt8 := dkwX6_countedBy_1 ++ dktX6_countedBy_2
def dkwX6_countedBy_0 : List UInt8 := [28, 184, 0, 241, 29, 164, 0, 5, 2, 172, 3, 54, 4, 27, 54, 5, 3, 54, 6, 21, 6, 42]
abbrev dktX6_countedBy_0 : List UInt8 := dkwX6_countedBy_0 ++ dktX6_countedBy_1
theorem dksX6_countedBy_0 : cX6_countedBy.data.toList.drop 0 = dktX6_countedBy_0 := by decide +kernel
theorem dksX6_countedBy_1 : cX6_countedBy.data.toList.drop 22 = dktX6_countedBy_1 := dk_seg dksX6_countedBy_0 22 rfl rfl
theorem dksX6_countedBy_2 : cX6_countedBy.data.toList.drop 46 = dktX6_countedBy_2 := dk_seg dksX6_countedBy_1 24 rfl rfl
theorem dksX6_countedBy_3 : cX6_countedBy.data.toList.drop 68 = dktX6_countedBy_3 := dk_seg dksX6_countedBy_2 22 rfl rfl
theorem dX6_countedBy_0 : decode cX6_countedBy 0 = .ok (.iload_n 2, 1) := dk_28 (dk_at dksX6_countedBy_0 0 rfl rfl)
theorem dX6_countedBy_1 : decode cX6_countedBy 1 = .ok (.invokestatic 241, 3) := dk_184 0 241 (dk_at dksX6_countedBy_0 1 rfl rfl)
theorem dX6_countedBy_4 : decode cX6_countedBy 4 = .ok (.iload_n 3, 1) := dk_29 (dk_at dksX6_countedBy_0 4 rfl rfl)
theorem dX6_countedBy_5 : decode cX6_countedBy 5 = .ok (.if_icmp .le 5, 3) := dk_164 0 5 (dk_at dksX6_countedBy_0 5 rfl rfl)
theorem dX6_countedBy_8 : decode cX6_countedBy 8 = .ok (.iconst (-1), 1) := dk_2 (dk_at dksX6_countedBy_0 8 rfl rfl)
theorem dX6_countedBy_9 : decode cX6_countedBy 9 = .ok (.ireturn, 1) := dk_172 (dk_at dksX6_countedBy_0 9 rfl rfl)
theorem dX6_countedBy_10 : decode cX6_countedBy 10 = .ok (.iconst 0, 1) := dk_3 (dk_at dksX6_countedBy_0 10 rfl rfl)
theorem dX6_countedBy_11 : decode cX6_countedBy 11 = .ok (.istore 4, 2) := dk_54 4 (dk_at dksX6_countedBy_0 11 rfl rfl)
theorem dX6_countedBy_13 : decode cX6_countedBy 13 = .ok (.iload_n 1, 1) := dk_27 (dk_at dksX6_countedBy_0 13 rfl rfl)
theorem dX6_countedBy_14 : decode cX6_countedBy 14 = .ok (.istore 5, 2) := dk_54 5 (dk_at dksX6_countedBy_0 14 rfl rfl)
theorem dX6_countedBy_16 : decode cX6_countedBy 16 = .ok (.iconst 0, 1) := dk_3 (dk_at dksX6_countedBy_0 16 rfl rfl)
theorem dX6_countedBy_17 : decode cX6_countedBy 17 = .ok (.istore 6, 2) := dk_54 6 (dk_at dksX6_countedBy_0 17 rfl rfl)
theorem dX6_countedBy_19 : decode cX6_countedBy 19 = .ok (.iload 6, 2) := dk_21 6 (dk_at dksX6_countedBy_0 19 rfl rfl)
theorem dX6_countedBy_21 : decode cX6_countedBy 21 = .ok (.aload_n 0, 1) := dk_42 (dk_at dksX6_countedBy_0 21 rfl rfl)
theorem dX6_countedBy_22 : decode cX6_countedBy 22 = .ok (.getfield 244, 3) := dk_180 0 244 (dk_at dksX6_countedBy_1 0 rfl rfl)
theorem dX6_countedBy_25 : decode cX6_countedBy 25 = .ok (.if_icmp .ge 46, 3) := dk_162 0 46 (dk_at dksX6_countedBy_1 3 rfl rfl)
theorem dX6_countedBy_28 : decode cX6_countedBy 28 = .ok (.iload_n 2, 1) := dk_28 (dk_at dksX6_countedBy_1 6 rfl rfl)
theorem dX6_countedBy_29 : decode cX6_countedBy 29 = .ok (.iload 6, 2) := dk_21 6 (dk_at dksX6_countedBy_1 7 rfl rfl)
theorem dX6_countedBy_31 : decode cX6_countedBy 31 = .ok (.ishr, 1) := dk_122 (dk_at dksX6_countedBy_1 9 rfl rfl)
theorem dX6_countedBy_32 : decode cX6_countedBy 32 = .ok (.iconst 1, 1) := dk_4 (dk_at dksX6_countedBy_1 10 rfl rfl)
theorem dX6_countedBy_33 : decode cX6_countedBy 33 = .ok (.iand, 1) := dk_126 (dk_at dksX6_countedBy_1 11 rfl rfl)
theorem dX6_countedBy_34 : decode cX6_countedBy 34 = .ok (.iconst 1, 1) := dk_4 (dk_at dksX6_countedBy_1 12 rfl rfl)
theorem dX6_countedBy_35 : decode cX6_countedBy 35 = .ok (.if_icmp .ne 24, 3) := dk_160 0 24 (dk_at dksX6_countedBy_1 13 rfl rfl)
theorem dX6_countedBy_38 : decode cX6_countedBy 38 = .ok (.iload 5, 2) := dk_21 5 (dk_at dksX6_countedBy_1 16 rfl rfl)
theorem dX6_countedBy_40 : decode cX6_countedBy 40 = .ok (.iconst 4, 1) := dk_7 (dk_at dksX6_countedBy_1 18 rfl rfl)
theorem dX6_countedBy_41 : decode cX6_countedBy 41 = .ok (.irem, 1) := dk_112 (dk_at dksX6_countedBy_1 19 rfl rfl)
theorem dX6_countedBy_42 : decode cX6_countedBy 42 = .ok (.ifCond .le 5, 3) := dk_158 0 5 (dk_at dksX6_countedBy_1 20 rfl rfl)
theorem dX6_countedBy_45 : decode cX6_countedBy 45 = .ok (.iconst (-1), 1) := dk_2 (dk_at dksX6_countedBy_1 23 rfl rfl)
theorem dX6_countedBy_46 : decode cX6_countedBy 46 = .ok (.ireturn, 1) := dk_172 (dk_at dksX6_countedBy_2 0 rfl rfl)
theorem dX6_countedBy_47 : decode cX6_countedBy 47 = .ok (.iload 4, 2) := dk_21 4 (dk_at dksX6_countedBy_2 1 rfl rfl)
theorem dX6_countedBy_49 : decode cX6_countedBy 49 = .ok (.aload_n 0, 1) := dk_42 (dk_at dksX6_countedBy_2 3 rfl rfl)
theorem dX6_countedBy_50 : decode cX6_countedBy 50 = .ok (.getfield 29, 3) := dk_180 0 29 (dk_at dksX6_countedBy_2 4 rfl rfl)
theorem dX6_countedBy_53 : decode cX6_countedBy 53 = .ok (.iload 6, 2) := dk_21 6 (dk_at dksX6_countedBy_2 7 rfl rfl)
theorem dX6_countedBy_55 : decode cX6_countedBy 55 = .ok (.iaload, 1) := dk_46 (dk_at dksX6_countedBy_2 9 rfl rfl)
theorem dX6_countedBy_56 : decode cX6_countedBy 56 = .ok (.iadd, 1) := dk_96 (dk_at dksX6_countedBy_2 10 rfl rfl)
theorem dX6_countedBy_57 : decode cX6_countedBy 57 = .ok (.istore 4, 2) := dk_54 4 (dk_at dksX6_countedBy_2 11 rfl rfl)
theorem dX6_countedBy_59 : decode cX6_countedBy 59 = .ok (.iload 5, 2) := dk_21 5 (dk_at dksX6_countedBy_2 13 rfl rfl)
theorem dX6_countedBy_61 : decode cX6_countedBy 61 = .ok (.iconst 4, 1) := dk_7 (dk_at dksX6_countedBy_2 15 rfl rfl)
theorem dX6_countedBy_62 : decode cX6_countedBy 62 = .ok (.idiv, 1) := dk_108 (dk_at dksX6_countedBy_2 16 rfl rfl)
theorem dX6_countedBy_63 : decode cX6_countedBy 63 = .ok (.istore 5, 2) := dk_54 5 (dk_at dksX6_countedBy_2 17 rfl rfl)
theorem dX6_countedBy_65 : decode cX6_countedBy 65 = .ok (.iinc 6 1, 3) := dk_132 6 1 (dk_at dksX6_countedBy_2 19 rfl rfl)
theorem dX6_countedBy_68 : decode cX6_countedBy 68 = .ok (.goto (-49), 3) := dk_167 255 207 (dk_at dksX6_countedBy_3 0 rfl rfl)
theorem dX6_countedBy_71 : decode cX6_countedBy 71 = .ok (.iload 4, 2) := dk_21 4 (dk_at dksX6_countedBy_3 3 rfl rfl)
theorem dX6_countedBy_73 : decode cX6_countedBy 73 = .ok (.ireturn, 1) := dk_172 (dk_at dksX6_countedBy_3 5 rfl rfl)
abbrev cX6_dayOn : ByteArray := prog_23_method_57_code
def yX6_dayOn : MethodName := ⟨RX6, "dayOn", "(II)I"⟩
def dkwX6_dayOn_3 : List UInt8 := [54, 4, 21, 5, 7, 108, 54, 5, 132, 6, 1, 167, 255, 185, 29, 172]
abbrev dktX6_dayOn_3 : List UInt8 := dkwX6_dayOn_3 ++ []
def dkwX6_dayOn_2 : List UInt8 := [21, 5, 7, 112, 4, 100, 167, 0, 4, 3, 54, 7, 29, 21, 4, 21, 7, 104, 96, 62, 21, 4, 7, 104]
abbrev dktX6_dayOn_2 : List UInt8 := dkwX6_dayOn_2 ++ dktX6_dayOn_3
def dkwX6_dayOn_1 : List UInt8 := [4, 126, 4, 160, 0, 13, 42, 180, 0, 7, 16, 7, 46, 167, 0, 20, 21, 5, 7, 112, 158, 0, 12]
abbrev dktX6_dayOn_1 : List UInt8 := dkwX6_dayOn_1 ++ dktX6_dayOn_2
def dkwX6_dayOn_0 : List UInt8 := [3, 62, 4, 54, 4, 27, 54, 5, 3, 54, 6, 21, 6, 42, 180, 0, 244, 162, 0, 68, 28, 21, 6, 122]
abbrev dktX6_dayOn_0 : List UInt8 := dkwX6_dayOn_0 ++ dktX6_dayOn_1
theorem dksX6_dayOn_0 : cX6_dayOn.data.toList.drop 0 = dktX6_dayOn_0 := by decide +kernel
theorem dksX6_dayOn_1 : cX6_dayOn.data.toList.drop 24 = dktX6_dayOn_1 := dk_seg dksX6_dayOn_0 24 rfl rfl
theorem dksX6_dayOn_2 : cX6_dayOn.data.toList.drop 47 = dktX6_dayOn_2 := dk_seg dksX6_dayOn_1 23 rfl rfl
theorem dksX6_dayOn_3 : cX6_dayOn.data.toList.drop 71 = dktX6_dayOn_3 := dk_seg dksX6_dayOn_2 24 rfl rfl
theorem dX6_dayOn_0 : decode cX6_dayOn 0 = .ok (.iconst 0, 1) := dk_3 (dk_at dksX6_dayOn_0 0 rfl rfl)
theorem dX6_dayOn_1 : decode cX6_dayOn 1 = .ok (.istore_n 3, 1) := dk_62 (dk_at dksX6_dayOn_0 1 rfl rfl)
theorem dX6_dayOn_2 : decode cX6_dayOn 2 = .ok (.iconst 1, 1) := dk_4 (dk_at dksX6_dayOn_0 2 rfl rfl)
theorem dX6_dayOn_3 : decode cX6_dayOn 3 = .ok (.istore 4, 2) := dk_54 4 (dk_at dksX6_dayOn_0 3 rfl rfl)
theorem dX6_dayOn_5 : decode cX6_dayOn 5 = .ok (.iload_n 1, 1) := dk_27 (dk_at dksX6_dayOn_0 5 rfl rfl)
theorem dX6_dayOn_6 : decode cX6_dayOn 6 = .ok (.istore 5, 2) := dk_54 5 (dk_at dksX6_dayOn_0 6 rfl rfl)
theorem dX6_dayOn_8 : decode cX6_dayOn 8 = .ok (.iconst 0, 1) := dk_3 (dk_at dksX6_dayOn_0 8 rfl rfl)
theorem dX6_dayOn_9 : decode cX6_dayOn 9 = .ok (.istore 6, 2) := dk_54 6 (dk_at dksX6_dayOn_0 9 rfl rfl)
theorem dX6_dayOn_11 : decode cX6_dayOn 11 = .ok (.iload 6, 2) := dk_21 6 (dk_at dksX6_dayOn_0 11 rfl rfl)
theorem dX6_dayOn_13 : decode cX6_dayOn 13 = .ok (.aload_n 0, 1) := dk_42 (dk_at dksX6_dayOn_0 13 rfl rfl)
theorem dX6_dayOn_14 : decode cX6_dayOn 14 = .ok (.getfield 244, 3) := dk_180 0 244 (dk_at dksX6_dayOn_0 14 rfl rfl)
theorem dX6_dayOn_17 : decode cX6_dayOn 17 = .ok (.if_icmp .ge 68, 3) := dk_162 0 68 (dk_at dksX6_dayOn_0 17 rfl rfl)
theorem dX6_dayOn_20 : decode cX6_dayOn 20 = .ok (.iload_n 2, 1) := dk_28 (dk_at dksX6_dayOn_0 20 rfl rfl)
theorem dX6_dayOn_21 : decode cX6_dayOn 21 = .ok (.iload 6, 2) := dk_21 6 (dk_at dksX6_dayOn_0 21 rfl rfl)
theorem dX6_dayOn_23 : decode cX6_dayOn 23 = .ok (.ishr, 1) := dk_122 (dk_at dksX6_dayOn_0 23 rfl rfl)
theorem dX6_dayOn_24 : decode cX6_dayOn 24 = .ok (.iconst 1, 1) := dk_4 (dk_at dksX6_dayOn_1 0 rfl rfl)
theorem dX6_dayOn_25 : decode cX6_dayOn 25 = .ok (.iand, 1) := dk_126 (dk_at dksX6_dayOn_1 1 rfl rfl)
theorem dX6_dayOn_26 : decode cX6_dayOn 26 = .ok (.iconst 1, 1) := dk_4 (dk_at dksX6_dayOn_1 2 rfl rfl)
theorem dX6_dayOn_27 : decode cX6_dayOn 27 = .ok (.if_icmp .ne 13, 3) := dk_160 0 13 (dk_at dksX6_dayOn_1 3 rfl rfl)
theorem dX6_dayOn_30 : decode cX6_dayOn 30 = .ok (.aload_n 0, 1) := dk_42 (dk_at dksX6_dayOn_1 6 rfl rfl)
theorem dX6_dayOn_31 : decode cX6_dayOn 31 = .ok (.getfield 7, 3) := dk_180 0 7 (dk_at dksX6_dayOn_1 7 rfl rfl)
theorem dX6_dayOn_34 : decode cX6_dayOn 34 = .ok (.bipush 7, 2) := dk_16 7 (dk_at dksX6_dayOn_1 10 rfl rfl)
theorem dX6_dayOn_36 : decode cX6_dayOn 36 = .ok (.iaload, 1) := dk_46 (dk_at dksX6_dayOn_1 12 rfl rfl)
theorem dX6_dayOn_37 : decode cX6_dayOn 37 = .ok (.goto 20, 3) := dk_167 0 20 (dk_at dksX6_dayOn_1 13 rfl rfl)
theorem dX6_dayOn_40 : decode cX6_dayOn 40 = .ok (.iload 5, 2) := dk_21 5 (dk_at dksX6_dayOn_1 16 rfl rfl)
theorem dX6_dayOn_42 : decode cX6_dayOn 42 = .ok (.iconst 4, 1) := dk_7 (dk_at dksX6_dayOn_1 18 rfl rfl)
theorem dX6_dayOn_43 : decode cX6_dayOn 43 = .ok (.irem, 1) := dk_112 (dk_at dksX6_dayOn_1 19 rfl rfl)
theorem dX6_dayOn_44 : decode cX6_dayOn 44 = .ok (.ifCond .le 12, 3) := dk_158 0 12 (dk_at dksX6_dayOn_1 20 rfl rfl)
theorem dX6_dayOn_47 : decode cX6_dayOn 47 = .ok (.iload 5, 2) := dk_21 5 (dk_at dksX6_dayOn_2 0 rfl rfl)
theorem dX6_dayOn_49 : decode cX6_dayOn 49 = .ok (.iconst 4, 1) := dk_7 (dk_at dksX6_dayOn_2 2 rfl rfl)
theorem dX6_dayOn_50 : decode cX6_dayOn 50 = .ok (.irem, 1) := dk_112 (dk_at dksX6_dayOn_2 3 rfl rfl)
theorem dX6_dayOn_51 : decode cX6_dayOn 51 = .ok (.iconst 1, 1) := dk_4 (dk_at dksX6_dayOn_2 4 rfl rfl)
theorem dX6_dayOn_52 : decode cX6_dayOn 52 = .ok (.isub, 1) := dk_100 (dk_at dksX6_dayOn_2 5 rfl rfl)
theorem dX6_dayOn_53 : decode cX6_dayOn 53 = .ok (.goto 4, 3) := dk_167 0 4 (dk_at dksX6_dayOn_2 6 rfl rfl)
theorem dX6_dayOn_56 : decode cX6_dayOn 56 = .ok (.iconst 0, 1) := dk_3 (dk_at dksX6_dayOn_2 9 rfl rfl)
theorem dX6_dayOn_57 : decode cX6_dayOn 57 = .ok (.istore 7, 2) := dk_54 7 (dk_at dksX6_dayOn_2 10 rfl rfl)
theorem dX6_dayOn_59 : decode cX6_dayOn 59 = .ok (.iload_n 3, 1) := dk_29 (dk_at dksX6_dayOn_2 12 rfl rfl)
theorem dX6_dayOn_60 : decode cX6_dayOn 60 = .ok (.iload 4, 2) := dk_21 4 (dk_at dksX6_dayOn_2 13 rfl rfl)
theorem dX6_dayOn_62 : decode cX6_dayOn 62 = .ok (.iload 7, 2) := dk_21 7 (dk_at dksX6_dayOn_2 15 rfl rfl)
theorem dX6_dayOn_64 : decode cX6_dayOn 64 = .ok (.imul, 1) := dk_104 (dk_at dksX6_dayOn_2 17 rfl rfl)
theorem dX6_dayOn_65 : decode cX6_dayOn 65 = .ok (.iadd, 1) := dk_96 (dk_at dksX6_dayOn_2 18 rfl rfl)
theorem dX6_dayOn_66 : decode cX6_dayOn 66 = .ok (.istore_n 3, 1) := dk_62 (dk_at dksX6_dayOn_2 19 rfl rfl)
theorem dX6_dayOn_67 : decode cX6_dayOn 67 = .ok (.iload 4, 2) := dk_21 4 (dk_at dksX6_dayOn_2 20 rfl rfl)
theorem dX6_dayOn_69 : decode cX6_dayOn 69 = .ok (.iconst 4, 1) := dk_7 (dk_at dksX6_dayOn_2 22 rfl rfl)
theorem dX6_dayOn_70 : decode cX6_dayOn 70 = .ok (.imul, 1) := dk_104 (dk_at dksX6_dayOn_2 23 rfl rfl)
theorem dX6_dayOn_71 : decode cX6_dayOn 71 = .ok (.istore 4, 2) := dk_54 4 (dk_at dksX6_dayOn_3 0 rfl rfl)
theorem dX6_dayOn_73 : decode cX6_dayOn 73 = .ok (.iload 5, 2) := dk_21 5 (dk_at dksX6_dayOn_3 2 rfl rfl)
theorem dX6_dayOn_75 : decode cX6_dayOn 75 = .ok (.iconst 4, 1) := dk_7 (dk_at dksX6_dayOn_3 4 rfl rfl)
theorem dX6_dayOn_76 : decode cX6_dayOn 76 = .ok (.idiv, 1) := dk_108 (dk_at dksX6_dayOn_3 5 rfl rfl)
theorem dX6_dayOn_77 : decode cX6_dayOn 77 = .ok (.istore 5, 2) := dk_54 5 (dk_at dksX6_dayOn_3 6 rfl rfl)
theorem dX6_dayOn_79 : decode cX6_dayOn 79 = .ok (.iinc 6 1, 3) := dk_132 6 1 (dk_at dksX6_dayOn_3 8 rfl rfl)
theorem dX6_dayOn_82 : decode cX6_dayOn 82 = .ok (.goto (-71), 3) := dk_167 255 185 (dk_at dksX6_dayOn_3 11 rfl rfl)
theorem dX6_dayOn_85 : decode cX6_dayOn 85 = .ok (.iload_n 3, 1) := dk_29 (dk_at dksX6_dayOn_3 14 rfl rfl)
theorem dX6_dayOn_86 : decode cX6_dayOn 86 = .ok (.ireturn, 1) := dk_172 (dk_at dksX6_dayOn_3 15 rfl rfl)
abbrev cX6_burn : ByteArray := prog_23_method_60_code
def yX6_burn : MethodName := ⟨RX6, "burn", "(II)I"⟩
def dkwX6_burn_5 : List UInt8 := [16, 7, 21, 4, 104, 96, 16, 6, 96, 4, 79, 132, 4, 1, 167, 255, 230, 29, 172]
abbrev dktX6_burn_5 : List UInt8 := dkwX6_burn_5 ++ []
def dkwX6_burn_4 : List UInt8 := [180, 0, 41, 158, 0, 5, 3, 172, 27, 54, 4, 21, 4, 28, 163, 0, 26, 42, 180, 0, 7, 16, 122]
abbrev dktX6_burn_4 : List UInt8 := dkwX6_burn_4 ++ dktX6_burn_5
def dkwX6_burn_3 : List UInt8 := [132, 4, 1, 167, 255, 234, 42, 29, 16, 16, 164, 0, 7, 6, 167, 0, 4, 3, 181, 0, 41, 42]
abbrev dktX6_burn_3 : List UInt8 := dkwX6_burn_3 ++ dktX6_burn_4
def dkwX6_burn_2 : List UInt8 := [62, 27, 54, 4, 21, 4, 28, 163, 0, 22, 29, 4, 42, 21, 4, 16, 6, 182, 0, 196, 100, 96, 62]
abbrev dktX6_burn_2 : List UInt8 := dkwX6_burn_2 ++ dktX6_burn_3
def dkwX6_burn_1 : List UInt8 := [162, 0, 7, 5, 167, 0, 4, 3, 181, 0, 41, 42, 180, 0, 41, 158, 0, 5, 3, 172, 42, 182, 0, 253]
abbrev dktX6_burn_1 : List UInt8 := dkwX6_burn_1 ++ dktX6_burn_2
def dkwX6_burn_0 : List UInt8 := [42, 42, 27, 182, 0, 221, 153, 0, 11, 42, 28, 182, 0, 221, 154, 0, 7, 4, 167, 0, 13, 28, 27]
abbrev dktX6_burn_0 : List UInt8 := dkwX6_burn_0 ++ dktX6_burn_1
theorem dksX6_burn_0 : cX6_burn.data.toList.drop 0 = dktX6_burn_0 := by decide +kernel
theorem dksX6_burn_1 : cX6_burn.data.toList.drop 23 = dktX6_burn_1 := dk_seg dksX6_burn_0 23 rfl rfl
theorem dksX6_burn_2 : cX6_burn.data.toList.drop 47 = dktX6_burn_2 := dk_seg dksX6_burn_1 24 rfl rfl
theorem dksX6_burn_3 : cX6_burn.data.toList.drop 70 = dktX6_burn_3 := dk_seg dksX6_burn_2 23 rfl rfl
theorem dksX6_burn_4 : cX6_burn.data.toList.drop 92 = dktX6_burn_4 := dk_seg dksX6_burn_3 22 rfl rfl
theorem dksX6_burn_5 : cX6_burn.data.toList.drop 115 = dktX6_burn_5 := dk_seg dksX6_burn_4 23 rfl rfl
theorem dX6_burn_0 : decode cX6_burn 0 = .ok (.aload_n 0, 1) := dk_42 (dk_at dksX6_burn_0 0 rfl rfl)
theorem dX6_burn_1 : decode cX6_burn 1 = .ok (.aload_n 0, 1) := dk_42 (dk_at dksX6_burn_0 1 rfl rfl)
theorem dX6_burn_2 : decode cX6_burn 2 = .ok (.iload_n 1, 1) := dk_27 (dk_at dksX6_burn_0 2 rfl rfl)
theorem dX6_burn_3 : decode cX6_burn 3 = .ok (.invokevirtual 221, 3) := dk_182 0 221 (dk_at dksX6_burn_0 3 rfl rfl)
theorem dX6_burn_6 : decode cX6_burn 6 = .ok (.ifCond .eq 11, 3) := dk_153 0 11 (dk_at dksX6_burn_0 6 rfl rfl)
theorem dX6_burn_9 : decode cX6_burn 9 = .ok (.aload_n 0, 1) := dk_42 (dk_at dksX6_burn_0 9 rfl rfl)
theorem dX6_burn_10 : decode cX6_burn 10 = .ok (.iload_n 2, 1) := dk_28 (dk_at dksX6_burn_0 10 rfl rfl)
theorem dX6_burn_11 : decode cX6_burn 11 = .ok (.invokevirtual 221, 3) := dk_182 0 221 (dk_at dksX6_burn_0 11 rfl rfl)
theorem dX6_burn_14 : decode cX6_burn 14 = .ok (.ifCond .ne 7, 3) := dk_154 0 7 (dk_at dksX6_burn_0 14 rfl rfl)
theorem dX6_burn_17 : decode cX6_burn 17 = .ok (.iconst 1, 1) := dk_4 (dk_at dksX6_burn_0 17 rfl rfl)
theorem dX6_burn_18 : decode cX6_burn 18 = .ok (.goto 13, 3) := dk_167 0 13 (dk_at dksX6_burn_0 18 rfl rfl)
theorem dX6_burn_21 : decode cX6_burn 21 = .ok (.iload_n 2, 1) := dk_28 (dk_at dksX6_burn_0 21 rfl rfl)
theorem dX6_burn_22 : decode cX6_burn 22 = .ok (.iload_n 1, 1) := dk_27 (dk_at dksX6_burn_0 22 rfl rfl)
theorem dX6_burn_23 : decode cX6_burn 23 = .ok (.if_icmp .ge 7, 3) := dk_162 0 7 (dk_at dksX6_burn_1 0 rfl rfl)
theorem dX6_burn_26 : decode cX6_burn 26 = .ok (.iconst 2, 1) := dk_5 (dk_at dksX6_burn_1 3 rfl rfl)
theorem dX6_burn_27 : decode cX6_burn 27 = .ok (.goto 4, 3) := dk_167 0 4 (dk_at dksX6_burn_1 4 rfl rfl)
theorem dX6_burn_30 : decode cX6_burn 30 = .ok (.iconst 0, 1) := dk_3 (dk_at dksX6_burn_1 7 rfl rfl)
theorem dX6_burn_31 : decode cX6_burn 31 = .ok (.putfield 41, 3) := dk_181 0 41 (dk_at dksX6_burn_1 8 rfl rfl)
theorem dX6_burn_34 : decode cX6_burn 34 = .ok (.aload_n 0, 1) := dk_42 (dk_at dksX6_burn_1 11 rfl rfl)
theorem dX6_burn_35 : decode cX6_burn 35 = .ok (.getfield 41, 3) := dk_180 0 41 (dk_at dksX6_burn_1 12 rfl rfl)
theorem dX6_burn_38 : decode cX6_burn 38 = .ok (.ifCond .le 5, 3) := dk_158 0 5 (dk_at dksX6_burn_1 15 rfl rfl)
theorem dX6_burn_41 : decode cX6_burn 41 = .ok (.iconst 0, 1) := dk_3 (dk_at dksX6_burn_1 18 rfl rfl)
theorem dX6_burn_42 : decode cX6_burn 42 = .ok (.ireturn, 1) := dk_172 (dk_at dksX6_burn_1 19 rfl rfl)
theorem dX6_burn_43 : decode cX6_burn 43 = .ok (.aload_n 0, 1) := dk_42 (dk_at dksX6_burn_1 20 rfl rfl)
theorem dX6_burn_44 : decode cX6_burn 44 = .ok (.invokevirtual 253, 3) := dk_182 0 253 (dk_at dksX6_burn_1 21 rfl rfl)
theorem dX6_burn_47 : decode cX6_burn 47 = .ok (.istore_n 3, 1) := dk_62 (dk_at dksX6_burn_2 0 rfl rfl)
theorem dX6_burn_48 : decode cX6_burn 48 = .ok (.iload_n 1, 1) := dk_27 (dk_at dksX6_burn_2 1 rfl rfl)
theorem dX6_burn_49 : decode cX6_burn 49 = .ok (.istore 4, 2) := dk_54 4 (dk_at dksX6_burn_2 2 rfl rfl)
theorem dX6_burn_51 : decode cX6_burn 51 = .ok (.iload 4, 2) := dk_21 4 (dk_at dksX6_burn_2 4 rfl rfl)
theorem dX6_burn_53 : decode cX6_burn 53 = .ok (.iload_n 2, 1) := dk_28 (dk_at dksX6_burn_2 6 rfl rfl)
theorem dX6_burn_54 : decode cX6_burn 54 = .ok (.if_icmp .gt 22, 3) := dk_163 0 22 (dk_at dksX6_burn_2 7 rfl rfl)
theorem dX6_burn_57 : decode cX6_burn 57 = .ok (.iload_n 3, 1) := dk_29 (dk_at dksX6_burn_2 10 rfl rfl)
theorem dX6_burn_58 : decode cX6_burn 58 = .ok (.iconst 1, 1) := dk_4 (dk_at dksX6_burn_2 11 rfl rfl)
theorem dX6_burn_59 : decode cX6_burn 59 = .ok (.aload_n 0, 1) := dk_42 (dk_at dksX6_burn_2 12 rfl rfl)
theorem dX6_burn_60 : decode cX6_burn 60 = .ok (.iload 4, 2) := dk_21 4 (dk_at dksX6_burn_2 13 rfl rfl)
theorem dX6_burn_62 : decode cX6_burn 62 = .ok (.bipush 6, 2) := dk_16 6 (dk_at dksX6_burn_2 15 rfl rfl)
theorem dX6_burn_64 : decode cX6_burn 64 = .ok (.invokevirtual 196, 3) := dk_182 0 196 (dk_at dksX6_burn_2 17 rfl rfl)
theorem dX6_burn_67 : decode cX6_burn 67 = .ok (.isub, 1) := dk_100 (dk_at dksX6_burn_2 20 rfl rfl)
theorem dX6_burn_68 : decode cX6_burn 68 = .ok (.iadd, 1) := dk_96 (dk_at dksX6_burn_2 21 rfl rfl)
theorem dX6_burn_69 : decode cX6_burn 69 = .ok (.istore_n 3, 1) := dk_62 (dk_at dksX6_burn_2 22 rfl rfl)
theorem dX6_burn_70 : decode cX6_burn 70 = .ok (.iinc 4 1, 3) := dk_132 4 1 (dk_at dksX6_burn_3 0 rfl rfl)
theorem dX6_burn_73 : decode cX6_burn 73 = .ok (.goto (-22), 3) := dk_167 255 234 (dk_at dksX6_burn_3 3 rfl rfl)
theorem dX6_burn_76 : decode cX6_burn 76 = .ok (.aload_n 0, 1) := dk_42 (dk_at dksX6_burn_3 6 rfl rfl)
theorem dX6_burn_77 : decode cX6_burn 77 = .ok (.iload_n 3, 1) := dk_29 (dk_at dksX6_burn_3 7 rfl rfl)
theorem dX6_burn_78 : decode cX6_burn 78 = .ok (.bipush 16, 2) := dk_16 16 (dk_at dksX6_burn_3 8 rfl rfl)
theorem dX6_burn_80 : decode cX6_burn 80 = .ok (.if_icmp .le 7, 3) := dk_164 0 7 (dk_at dksX6_burn_3 10 rfl rfl)
theorem dX6_burn_83 : decode cX6_burn 83 = .ok (.iconst 3, 1) := dk_6 (dk_at dksX6_burn_3 13 rfl rfl)
theorem dX6_burn_84 : decode cX6_burn 84 = .ok (.goto 4, 3) := dk_167 0 4 (dk_at dksX6_burn_3 14 rfl rfl)
theorem dX6_burn_87 : decode cX6_burn 87 = .ok (.iconst 0, 1) := dk_3 (dk_at dksX6_burn_3 17 rfl rfl)
theorem dX6_burn_88 : decode cX6_burn 88 = .ok (.putfield 41, 3) := dk_181 0 41 (dk_at dksX6_burn_3 18 rfl rfl)
theorem dX6_burn_91 : decode cX6_burn 91 = .ok (.aload_n 0, 1) := dk_42 (dk_at dksX6_burn_3 21 rfl rfl)
theorem dX6_burn_92 : decode cX6_burn 92 = .ok (.getfield 41, 3) := dk_180 0 41 (dk_at dksX6_burn_4 0 rfl rfl)
theorem dX6_burn_95 : decode cX6_burn 95 = .ok (.ifCond .le 5, 3) := dk_158 0 5 (dk_at dksX6_burn_4 3 rfl rfl)
theorem dX6_burn_98 : decode cX6_burn 98 = .ok (.iconst 0, 1) := dk_3 (dk_at dksX6_burn_4 6 rfl rfl)
theorem dX6_burn_99 : decode cX6_burn 99 = .ok (.ireturn, 1) := dk_172 (dk_at dksX6_burn_4 7 rfl rfl)
theorem dX6_burn_100 : decode cX6_burn 100 = .ok (.iload_n 1, 1) := dk_27 (dk_at dksX6_burn_4 8 rfl rfl)
theorem dX6_burn_101 : decode cX6_burn 101 = .ok (.istore 4, 2) := dk_54 4 (dk_at dksX6_burn_4 9 rfl rfl)
theorem dX6_burn_103 : decode cX6_burn 103 = .ok (.iload 4, 2) := dk_21 4 (dk_at dksX6_burn_4 11 rfl rfl)
theorem dX6_burn_105 : decode cX6_burn 105 = .ok (.iload_n 2, 1) := dk_28 (dk_at dksX6_burn_4 13 rfl rfl)
theorem dX6_burn_106 : decode cX6_burn 106 = .ok (.if_icmp .gt 26, 3) := dk_163 0 26 (dk_at dksX6_burn_4 14 rfl rfl)
theorem dX6_burn_109 : decode cX6_burn 109 = .ok (.aload_n 0, 1) := dk_42 (dk_at dksX6_burn_4 17 rfl rfl)
theorem dX6_burn_110 : decode cX6_burn 110 = .ok (.getfield 7, 3) := dk_180 0 7 (dk_at dksX6_burn_4 18 rfl rfl)
theorem dX6_burn_113 : decode cX6_burn 113 = .ok (.bipush 122, 2) := dk_16 122 (dk_at dksX6_burn_4 21 rfl rfl)
theorem dX6_burn_115 : decode cX6_burn 115 = .ok (.bipush 7, 2) := dk_16 7 (dk_at dksX6_burn_5 0 rfl rfl)
theorem dX6_burn_117 : decode cX6_burn 117 = .ok (.iload 4, 2) := dk_21 4 (dk_at dksX6_burn_5 2 rfl rfl)
theorem dX6_burn_119 : decode cX6_burn 119 = .ok (.imul, 1) := dk_104 (dk_at dksX6_burn_5 4 rfl rfl)
theorem dX6_burn_120 : decode cX6_burn 120 = .ok (.iadd, 1) := dk_96 (dk_at dksX6_burn_5 5 rfl rfl)
theorem dX6_burn_121 : decode cX6_burn 121 = .ok (.bipush 6, 2) := dk_16 6 (dk_at dksX6_burn_5 6 rfl rfl)
theorem dX6_burn_123 : decode cX6_burn 123 = .ok (.iadd, 1) := dk_96 (dk_at dksX6_burn_5 8 rfl rfl)
theorem dX6_burn_124 : decode cX6_burn 124 = .ok (.iconst 1, 1) := dk_4 (dk_at dksX6_burn_5 9 rfl rfl)
theorem dX6_burn_125 : decode cX6_burn 125 = .ok (.iastore, 1) := dk_79 (dk_at dksX6_burn_5 10 rfl rfl)
theorem dX6_burn_126 : decode cX6_burn 126 = .ok (.iinc 4 1, 3) := dk_132 4 1 (dk_at dksX6_burn_5 11 rfl rfl)
theorem dX6_burn_129 : decode cX6_burn 129 = .ok (.goto (-26), 3) := dk_167 255 230 (dk_at dksX6_burn_5 14 rfl rfl)
theorem dX6_burn_132 : decode cX6_burn 132 = .ok (.iload_n 3, 1) := dk_29 (dk_at dksX6_burn_5 17 rfl rfl)
theorem dX6_burn_133 : decode cX6_burn 133 = .ok (.ireturn, 1) := dk_172 (dk_at dksX6_burn_5 18 rfl rfl)
abbrev cX6_burntNow : ByteArray := prog_23_method_59_code
def yX6_burntNow : MethodName := ⟨RX6, "burntNow", "()I"⟩
def dkwX6_burntNow_1 : List UInt8 := [132, 2, 1, 167, 255, 233, 27, 172]
abbrev dktX6_burntNow_1 : List UInt8 := dkwX6_burntNow_1 ++ []
def dkwX6_burntNow_0 : List UInt8 := [3, 60, 3, 61, 28, 42, 180, 0, 7, 7, 46, 162, 0, 19, 27, 42, 28, 16, 6, 182, 0, 196, 96, 60]
abbrev dktX6_burntNow_0 : List UInt8 := dkwX6_burntNow_0 ++ dktX6_burntNow_1
theorem dksX6_burntNow_0 : cX6_burntNow.data.toList.drop 0 = dktX6_burntNow_0 := by decide +kernel
theorem dksX6_burntNow_1 : cX6_burntNow.data.toList.drop 24 = dktX6_burntNow_1 := dk_seg dksX6_burntNow_0 24 rfl rfl
theorem dX6_burntNow_0 : decode cX6_burntNow 0 = .ok (.iconst 0, 1) := dk_3 (dk_at dksX6_burntNow_0 0 rfl rfl)
theorem dX6_burntNow_1 : decode cX6_burntNow 1 = .ok (.istore_n 1, 1) := dk_60 (dk_at dksX6_burntNow_0 1 rfl rfl)
theorem dX6_burntNow_2 : decode cX6_burntNow 2 = .ok (.iconst 0, 1) := dk_3 (dk_at dksX6_burntNow_0 2 rfl rfl)
theorem dX6_burntNow_3 : decode cX6_burntNow 3 = .ok (.istore_n 2, 1) := dk_61 (dk_at dksX6_burntNow_0 3 rfl rfl)
theorem dX6_burntNow_4 : decode cX6_burntNow 4 = .ok (.iload_n 2, 1) := dk_28 (dk_at dksX6_burntNow_0 4 rfl rfl)
theorem dX6_burntNow_5 : decode cX6_burntNow 5 = .ok (.aload_n 0, 1) := dk_42 (dk_at dksX6_burntNow_0 5 rfl rfl)
theorem dX6_burntNow_6 : decode cX6_burntNow 6 = .ok (.getfield 7, 3) := dk_180 0 7 (dk_at dksX6_burntNow_0 6 rfl rfl)
theorem dX6_burntNow_9 : decode cX6_burntNow 9 = .ok (.iconst 4, 1) := dk_7 (dk_at dksX6_burntNow_0 9 rfl rfl)
theorem dX6_burntNow_10 : decode cX6_burntNow 10 = .ok (.iaload, 1) := dk_46 (dk_at dksX6_burntNow_0 10 rfl rfl)
theorem dX6_burntNow_11 : decode cX6_burntNow 11 = .ok (.if_icmp .ge 19, 3) := dk_162 0 19 (dk_at dksX6_burntNow_0 11 rfl rfl)
theorem dX6_burntNow_14 : decode cX6_burntNow 14 = .ok (.iload_n 1, 1) := dk_27 (dk_at dksX6_burntNow_0 14 rfl rfl)
theorem dX6_burntNow_15 : decode cX6_burntNow 15 = .ok (.aload_n 0, 1) := dk_42 (dk_at dksX6_burntNow_0 15 rfl rfl)
theorem dX6_burntNow_16 : decode cX6_burntNow 16 = .ok (.iload_n 2, 1) := dk_28 (dk_at dksX6_burntNow_0 16 rfl rfl)
theorem dX6_burntNow_17 : decode cX6_burntNow 17 = .ok (.bipush 6, 2) := dk_16 6 (dk_at dksX6_burntNow_0 17 rfl rfl)
theorem dX6_burntNow_19 : decode cX6_burntNow 19 = .ok (.invokevirtual 196, 3) := dk_182 0 196 (dk_at dksX6_burntNow_0 19 rfl rfl)
theorem dX6_burntNow_22 : decode cX6_burntNow 22 = .ok (.iadd, 1) := dk_96 (dk_at dksX6_burntNow_0 22 rfl rfl)
theorem dX6_burntNow_23 : decode cX6_burntNow 23 = .ok (.istore_n 1, 1) := dk_60 (dk_at dksX6_burntNow_0 23 rfl rfl)
theorem dX6_burntNow_24 : decode cX6_burntNow 24 = .ok (.iinc 2 1, 3) := dk_132 2 1 (dk_at dksX6_burntNow_1 0 rfl rfl)
theorem dX6_burntNow_27 : decode cX6_burntNow 27 = .ok (.goto (-23), 3) := dk_167 255 233 (dk_at dksX6_burntNow_1 3 rfl rfl)
theorem dX6_burntNow_30 : decode cX6_burntNow 30 = .ok (.iload_n 1, 1) := dk_27 (dk_at dksX6_burntNow_1 6 rfl rfl)
theorem dX6_burntNow_31 : decode cX6_burntNow 31 = .ok (.ireturn, 1) := dk_172 (dk_at dksX6_burntNow_1 7 rfl rfl)
abbrev cX6_span : ByteArray := prog_23_method_63_code
def yX6_span : MethodName := ⟨RX6, "span", "(IZ)I"⟩
def dkwX6_span_3 : List UInt8 := [180, 0, 38, 21, 5, 46, 96, 54, 4, 132, 5, 1, 167, 255, 214, 21, 4, 172]
abbrev dktX6_span_3 : List UInt8 := dkwX6_span_3 ++ []
def dkwX6_span_2 : List UInt8 := [21, 4, 28, 153, 0, 20, 42, 180, 0, 38, 42, 180, 1, 0, 4, 100, 21, 5, 100, 46, 167, 0, 10, 42]
abbrev dktX6_span_2 : List UInt8 := dkwX6_span_2 ++ dktX6_span_3
def dkwX6_span_1 : List UInt8 := [3, 172, 42, 27, 182, 1, 3, 62, 42, 27, 182, 1, 6, 54, 4, 3, 54, 5, 21, 5, 29, 162, 0, 42]
abbrev dktX6_span_1 : List UInt8 := dkwX6_span_1 ++ dktX6_span_2
def dkwX6_span_0 : List UInt8 := [42, 42, 27, 182, 0, 200, 154, 0, 7, 4, 167, 0, 4, 3, 181, 0, 41, 42, 180, 0, 41, 158, 0, 5]
abbrev dktX6_span_0 : List UInt8 := dkwX6_span_0 ++ dktX6_span_1
theorem dksX6_span_0 : cX6_span.data.toList.drop 0 = dktX6_span_0 := by decide +kernel
theorem dksX6_span_1 : cX6_span.data.toList.drop 24 = dktX6_span_1 := dk_seg dksX6_span_0 24 rfl rfl
theorem dksX6_span_2 : cX6_span.data.toList.drop 48 = dktX6_span_2 := dk_seg dksX6_span_1 24 rfl rfl
theorem dksX6_span_3 : cX6_span.data.toList.drop 72 = dktX6_span_3 := dk_seg dksX6_span_2 24 rfl rfl
theorem dX6_span_0 : decode cX6_span 0 = .ok (.aload_n 0, 1) := dk_42 (dk_at dksX6_span_0 0 rfl rfl)
theorem dX6_span_1 : decode cX6_span 1 = .ok (.aload_n 0, 1) := dk_42 (dk_at dksX6_span_0 1 rfl rfl)
theorem dX6_span_2 : decode cX6_span 2 = .ok (.iload_n 1, 1) := dk_27 (dk_at dksX6_span_0 2 rfl rfl)
theorem dX6_span_3 : decode cX6_span 3 = .ok (.invokevirtual 200, 3) := dk_182 0 200 (dk_at dksX6_span_0 3 rfl rfl)
theorem dX6_span_6 : decode cX6_span 6 = .ok (.ifCond .ne 7, 3) := dk_154 0 7 (dk_at dksX6_span_0 6 rfl rfl)
theorem dX6_span_9 : decode cX6_span 9 = .ok (.iconst 1, 1) := dk_4 (dk_at dksX6_span_0 9 rfl rfl)
theorem dX6_span_10 : decode cX6_span 10 = .ok (.goto 4, 3) := dk_167 0 4 (dk_at dksX6_span_0 10 rfl rfl)
theorem dX6_span_13 : decode cX6_span 13 = .ok (.iconst 0, 1) := dk_3 (dk_at dksX6_span_0 13 rfl rfl)
theorem dX6_span_14 : decode cX6_span 14 = .ok (.putfield 41, 3) := dk_181 0 41 (dk_at dksX6_span_0 14 rfl rfl)
theorem dX6_span_17 : decode cX6_span 17 = .ok (.aload_n 0, 1) := dk_42 (dk_at dksX6_span_0 17 rfl rfl)
theorem dX6_span_18 : decode cX6_span 18 = .ok (.getfield 41, 3) := dk_180 0 41 (dk_at dksX6_span_0 18 rfl rfl)
theorem dX6_span_21 : decode cX6_span 21 = .ok (.ifCond .le 5, 3) := dk_158 0 5 (dk_at dksX6_span_0 21 rfl rfl)
theorem dX6_span_24 : decode cX6_span 24 = .ok (.iconst 0, 1) := dk_3 (dk_at dksX6_span_1 0 rfl rfl)
theorem dX6_span_25 : decode cX6_span 25 = .ok (.ireturn, 1) := dk_172 (dk_at dksX6_span_1 1 rfl rfl)
theorem dX6_span_26 : decode cX6_span 26 = .ok (.aload_n 0, 1) := dk_42 (dk_at dksX6_span_1 2 rfl rfl)
theorem dX6_span_27 : decode cX6_span 27 = .ok (.iload_n 1, 1) := dk_27 (dk_at dksX6_span_1 3 rfl rfl)
theorem dX6_span_28 : decode cX6_span 28 = .ok (.invokevirtual 259, 3) := dk_182 1 3 (dk_at dksX6_span_1 4 rfl rfl)
theorem dX6_span_31 : decode cX6_span 31 = .ok (.istore_n 3, 1) := dk_62 (dk_at dksX6_span_1 7 rfl rfl)
theorem dX6_span_32 : decode cX6_span 32 = .ok (.aload_n 0, 1) := dk_42 (dk_at dksX6_span_1 8 rfl rfl)
theorem dX6_span_33 : decode cX6_span 33 = .ok (.iload_n 1, 1) := dk_27 (dk_at dksX6_span_1 9 rfl rfl)
theorem dX6_span_34 : decode cX6_span 34 = .ok (.invokevirtual 262, 3) := dk_182 1 6 (dk_at dksX6_span_1 10 rfl rfl)
theorem dX6_span_37 : decode cX6_span 37 = .ok (.istore 4, 2) := dk_54 4 (dk_at dksX6_span_1 13 rfl rfl)
theorem dX6_span_39 : decode cX6_span 39 = .ok (.iconst 0, 1) := dk_3 (dk_at dksX6_span_1 15 rfl rfl)
theorem dX6_span_40 : decode cX6_span 40 = .ok (.istore 5, 2) := dk_54 5 (dk_at dksX6_span_1 16 rfl rfl)
theorem dX6_span_42 : decode cX6_span 42 = .ok (.iload 5, 2) := dk_21 5 (dk_at dksX6_span_1 18 rfl rfl)
theorem dX6_span_44 : decode cX6_span 44 = .ok (.iload_n 3, 1) := dk_29 (dk_at dksX6_span_1 20 rfl rfl)
theorem dX6_span_45 : decode cX6_span 45 = .ok (.if_icmp .ge 42, 3) := dk_162 0 42 (dk_at dksX6_span_1 21 rfl rfl)
theorem dX6_span_48 : decode cX6_span 48 = .ok (.iload 4, 2) := dk_21 4 (dk_at dksX6_span_2 0 rfl rfl)
theorem dX6_span_50 : decode cX6_span 50 = .ok (.iload_n 2, 1) := dk_28 (dk_at dksX6_span_2 2 rfl rfl)
theorem dX6_span_51 : decode cX6_span 51 = .ok (.ifCond .eq 20, 3) := dk_153 0 20 (dk_at dksX6_span_2 3 rfl rfl)
theorem dX6_span_54 : decode cX6_span 54 = .ok (.aload_n 0, 1) := dk_42 (dk_at dksX6_span_2 6 rfl rfl)
theorem dX6_span_55 : decode cX6_span 55 = .ok (.getfield 38, 3) := dk_180 0 38 (dk_at dksX6_span_2 7 rfl rfl)
theorem dX6_span_58 : decode cX6_span 58 = .ok (.aload_n 0, 1) := dk_42 (dk_at dksX6_span_2 10 rfl rfl)
theorem dX6_span_59 : decode cX6_span 59 = .ok (.getfield 256, 3) := dk_180 1 0 (dk_at dksX6_span_2 11 rfl rfl)
theorem dX6_span_62 : decode cX6_span 62 = .ok (.iconst 1, 1) := dk_4 (dk_at dksX6_span_2 14 rfl rfl)
theorem dX6_span_63 : decode cX6_span 63 = .ok (.isub, 1) := dk_100 (dk_at dksX6_span_2 15 rfl rfl)
theorem dX6_span_64 : decode cX6_span 64 = .ok (.iload 5, 2) := dk_21 5 (dk_at dksX6_span_2 16 rfl rfl)
theorem dX6_span_66 : decode cX6_span 66 = .ok (.isub, 1) := dk_100 (dk_at dksX6_span_2 18 rfl rfl)
theorem dX6_span_67 : decode cX6_span 67 = .ok (.iaload, 1) := dk_46 (dk_at dksX6_span_2 19 rfl rfl)
theorem dX6_span_68 : decode cX6_span 68 = .ok (.goto 10, 3) := dk_167 0 10 (dk_at dksX6_span_2 20 rfl rfl)
theorem dX6_span_71 : decode cX6_span 71 = .ok (.aload_n 0, 1) := dk_42 (dk_at dksX6_span_2 23 rfl rfl)
theorem dX6_span_72 : decode cX6_span 72 = .ok (.getfield 38, 3) := dk_180 0 38 (dk_at dksX6_span_3 0 rfl rfl)
theorem dX6_span_75 : decode cX6_span 75 = .ok (.iload 5, 2) := dk_21 5 (dk_at dksX6_span_3 3 rfl rfl)
theorem dX6_span_77 : decode cX6_span 77 = .ok (.iaload, 1) := dk_46 (dk_at dksX6_span_3 5 rfl rfl)
theorem dX6_span_78 : decode cX6_span 78 = .ok (.iadd, 1) := dk_96 (dk_at dksX6_span_3 6 rfl rfl)
theorem dX6_span_79 : decode cX6_span 79 = .ok (.istore 4, 2) := dk_54 4 (dk_at dksX6_span_3 7 rfl rfl)
theorem dX6_span_81 : decode cX6_span 81 = .ok (.iinc 5 1, 3) := dk_132 5 1 (dk_at dksX6_span_3 9 rfl rfl)
theorem dX6_span_84 : decode cX6_span 84 = .ok (.goto (-42), 3) := dk_167 255 214 (dk_at dksX6_span_3 12 rfl rfl)
theorem dX6_span_87 : decode cX6_span 87 = .ok (.iload 4, 2) := dk_21 4 (dk_at dksX6_span_3 15 rfl rfl)
theorem dX6_span_89 : decode cX6_span 89 = .ok (.ireturn, 1) := dk_172 (dk_at dksX6_span_3 17 rfl rfl)
abbrev cX6_asks : ByteArray := prog_23_method_61_code
def yX6_asks : MethodName := ⟨RX6, "asks", "(I)I"⟩
def dkwX6_asks_5 : List UInt8 := [180, 1, 0, 4, 96, 181, 1, 0, 132, 3, 1, 167, 255, 138, 28, 172]
abbrev dktX6_asks_5 : List UInt8 := dkwX6_asks_5 ++ []
def dkwX6_asks_4 : List UInt8 := [100, 46, 79, 132, 4, 255, 167, 255, 214, 42, 180, 0, 38, 21, 4, 42, 29, 8, 182, 0, 196, 79, 42, 89]
abbrev dktX6_asks_4 : List UInt8 := dkwX6_asks_4 ++ dktX6_asks_5
def dkwX6_asks_3 : List UInt8 := [100, 46, 42, 29, 8, 182, 0, 196, 164, 0, 25, 42, 180, 0, 38, 21, 4, 42, 180, 0, 38, 21, 4, 4]
abbrev dktX6_asks_3 : List UInt8 := dkwX6_asks_3 ++ dktX6_asks_4
def dkwX6_asks_2 : List UInt8 := [3, 100, 61, 167, 0, 77, 42, 180, 1, 0, 54, 4, 21, 4, 158, 0, 43, 42, 180, 0, 38, 21, 4, 4]
abbrev dktX6_asks_2 : List UInt8 := dkwX6_asks_2 ++ dktX6_asks_3
def dkwX6_asks_1 : List UInt8 := [29, 16, 6, 182, 0, 196, 154, 0, 24, 28, 42, 29, 5, 182, 0, 196, 27, 160, 0, 7, 4, 167, 0, 4]
abbrev dktX6_asks_1 : List UInt8 := dkwX6_asks_1 ++ dktX6_asks_2
def dkwX6_asks_0 : List UInt8 := [42, 3, 181, 1, 0, 42, 27, 182, 0, 206, 61, 3, 62, 29, 42, 180, 0, 7, 7, 46, 162, 0, 114, 42]
abbrev dktX6_asks_0 : List UInt8 := dkwX6_asks_0 ++ dktX6_asks_1
theorem dksX6_asks_0 : cX6_asks.data.toList.drop 0 = dktX6_asks_0 := by decide +kernel
theorem dksX6_asks_1 : cX6_asks.data.toList.drop 24 = dktX6_asks_1 := dk_seg dksX6_asks_0 24 rfl rfl
theorem dksX6_asks_2 : cX6_asks.data.toList.drop 48 = dktX6_asks_2 := dk_seg dksX6_asks_1 24 rfl rfl
theorem dksX6_asks_3 : cX6_asks.data.toList.drop 72 = dktX6_asks_3 := dk_seg dksX6_asks_2 24 rfl rfl
theorem dksX6_asks_4 : cX6_asks.data.toList.drop 96 = dktX6_asks_4 := dk_seg dksX6_asks_3 24 rfl rfl
theorem dksX6_asks_5 : cX6_asks.data.toList.drop 120 = dktX6_asks_5 := dk_seg dksX6_asks_4 24 rfl rfl
theorem dX6_asks_0 : decode cX6_asks 0 = .ok (.aload_n 0, 1) := dk_42 (dk_at dksX6_asks_0 0 rfl rfl)
theorem dX6_asks_1 : decode cX6_asks 1 = .ok (.iconst 0, 1) := dk_3 (dk_at dksX6_asks_0 1 rfl rfl)
theorem dX6_asks_2 : decode cX6_asks 2 = .ok (.putfield 256, 3) := dk_181 1 0 (dk_at dksX6_asks_0 2 rfl rfl)
theorem dX6_asks_5 : decode cX6_asks 5 = .ok (.aload_n 0, 1) := dk_42 (dk_at dksX6_asks_0 5 rfl rfl)
theorem dX6_asks_6 : decode cX6_asks 6 = .ok (.iload_n 1, 1) := dk_27 (dk_at dksX6_asks_0 6 rfl rfl)
theorem dX6_asks_7 : decode cX6_asks 7 = .ok (.invokevirtual 206, 3) := dk_182 0 206 (dk_at dksX6_asks_0 7 rfl rfl)
theorem dX6_asks_10 : decode cX6_asks 10 = .ok (.istore_n 2, 1) := dk_61 (dk_at dksX6_asks_0 10 rfl rfl)
theorem dX6_asks_11 : decode cX6_asks 11 = .ok (.iconst 0, 1) := dk_3 (dk_at dksX6_asks_0 11 rfl rfl)
theorem dX6_asks_12 : decode cX6_asks 12 = .ok (.istore_n 3, 1) := dk_62 (dk_at dksX6_asks_0 12 rfl rfl)
theorem dX6_asks_13 : decode cX6_asks 13 = .ok (.iload_n 3, 1) := dk_29 (dk_at dksX6_asks_0 13 rfl rfl)
theorem dX6_asks_14 : decode cX6_asks 14 = .ok (.aload_n 0, 1) := dk_42 (dk_at dksX6_asks_0 14 rfl rfl)
theorem dX6_asks_15 : decode cX6_asks 15 = .ok (.getfield 7, 3) := dk_180 0 7 (dk_at dksX6_asks_0 15 rfl rfl)
theorem dX6_asks_18 : decode cX6_asks 18 = .ok (.iconst 4, 1) := dk_7 (dk_at dksX6_asks_0 18 rfl rfl)
theorem dX6_asks_19 : decode cX6_asks 19 = .ok (.iaload, 1) := dk_46 (dk_at dksX6_asks_0 19 rfl rfl)
theorem dX6_asks_20 : decode cX6_asks 20 = .ok (.if_icmp .ge 114, 3) := dk_162 0 114 (dk_at dksX6_asks_0 20 rfl rfl)
theorem dX6_asks_23 : decode cX6_asks 23 = .ok (.aload_n 0, 1) := dk_42 (dk_at dksX6_asks_0 23 rfl rfl)
theorem dX6_asks_24 : decode cX6_asks 24 = .ok (.iload_n 3, 1) := dk_29 (dk_at dksX6_asks_1 0 rfl rfl)
theorem dX6_asks_25 : decode cX6_asks 25 = .ok (.bipush 6, 2) := dk_16 6 (dk_at dksX6_asks_1 1 rfl rfl)
theorem dX6_asks_27 : decode cX6_asks 27 = .ok (.invokevirtual 196, 3) := dk_182 0 196 (dk_at dksX6_asks_1 3 rfl rfl)
theorem dX6_asks_30 : decode cX6_asks 30 = .ok (.ifCond .ne 24, 3) := dk_154 0 24 (dk_at dksX6_asks_1 6 rfl rfl)
theorem dX6_asks_33 : decode cX6_asks 33 = .ok (.iload_n 2, 1) := dk_28 (dk_at dksX6_asks_1 9 rfl rfl)
theorem dX6_asks_34 : decode cX6_asks 34 = .ok (.aload_n 0, 1) := dk_42 (dk_at dksX6_asks_1 10 rfl rfl)
theorem dX6_asks_35 : decode cX6_asks 35 = .ok (.iload_n 3, 1) := dk_29 (dk_at dksX6_asks_1 11 rfl rfl)
theorem dX6_asks_36 : decode cX6_asks 36 = .ok (.iconst 2, 1) := dk_5 (dk_at dksX6_asks_1 12 rfl rfl)
theorem dX6_asks_37 : decode cX6_asks 37 = .ok (.invokevirtual 196, 3) := dk_182 0 196 (dk_at dksX6_asks_1 13 rfl rfl)
theorem dX6_asks_40 : decode cX6_asks 40 = .ok (.iload_n 1, 1) := dk_27 (dk_at dksX6_asks_1 16 rfl rfl)
theorem dX6_asks_41 : decode cX6_asks 41 = .ok (.if_icmp .ne 7, 3) := dk_160 0 7 (dk_at dksX6_asks_1 17 rfl rfl)
theorem dX6_asks_44 : decode cX6_asks 44 = .ok (.iconst 1, 1) := dk_4 (dk_at dksX6_asks_1 20 rfl rfl)
theorem dX6_asks_45 : decode cX6_asks 45 = .ok (.goto 4, 3) := dk_167 0 4 (dk_at dksX6_asks_1 21 rfl rfl)
theorem dX6_asks_48 : decode cX6_asks 48 = .ok (.iconst 0, 1) := dk_3 (dk_at dksX6_asks_2 0 rfl rfl)
theorem dX6_asks_49 : decode cX6_asks 49 = .ok (.isub, 1) := dk_100 (dk_at dksX6_asks_2 1 rfl rfl)
theorem dX6_asks_50 : decode cX6_asks 50 = .ok (.istore_n 2, 1) := dk_61 (dk_at dksX6_asks_2 2 rfl rfl)
theorem dX6_asks_51 : decode cX6_asks 51 = .ok (.goto 77, 3) := dk_167 0 77 (dk_at dksX6_asks_2 3 rfl rfl)
theorem dX6_asks_54 : decode cX6_asks 54 = .ok (.aload_n 0, 1) := dk_42 (dk_at dksX6_asks_2 6 rfl rfl)
theorem dX6_asks_55 : decode cX6_asks 55 = .ok (.getfield 256, 3) := dk_180 1 0 (dk_at dksX6_asks_2 7 rfl rfl)
theorem dX6_asks_58 : decode cX6_asks 58 = .ok (.istore 4, 2) := dk_54 4 (dk_at dksX6_asks_2 10 rfl rfl)
theorem dX6_asks_60 : decode cX6_asks 60 = .ok (.iload 4, 2) := dk_21 4 (dk_at dksX6_asks_2 12 rfl rfl)
theorem dX6_asks_62 : decode cX6_asks 62 = .ok (.ifCond .le 43, 3) := dk_158 0 43 (dk_at dksX6_asks_2 14 rfl rfl)
theorem dX6_asks_65 : decode cX6_asks 65 = .ok (.aload_n 0, 1) := dk_42 (dk_at dksX6_asks_2 17 rfl rfl)
theorem dX6_asks_66 : decode cX6_asks 66 = .ok (.getfield 38, 3) := dk_180 0 38 (dk_at dksX6_asks_2 18 rfl rfl)
theorem dX6_asks_69 : decode cX6_asks 69 = .ok (.iload 4, 2) := dk_21 4 (dk_at dksX6_asks_2 21 rfl rfl)
theorem dX6_asks_71 : decode cX6_asks 71 = .ok (.iconst 1, 1) := dk_4 (dk_at dksX6_asks_2 23 rfl rfl)
theorem dX6_asks_72 : decode cX6_asks 72 = .ok (.isub, 1) := dk_100 (dk_at dksX6_asks_3 0 rfl rfl)
theorem dX6_asks_73 : decode cX6_asks 73 = .ok (.iaload, 1) := dk_46 (dk_at dksX6_asks_3 1 rfl rfl)
theorem dX6_asks_74 : decode cX6_asks 74 = .ok (.aload_n 0, 1) := dk_42 (dk_at dksX6_asks_3 2 rfl rfl)
theorem dX6_asks_75 : decode cX6_asks 75 = .ok (.iload_n 3, 1) := dk_29 (dk_at dksX6_asks_3 3 rfl rfl)
theorem dX6_asks_76 : decode cX6_asks 76 = .ok (.iconst 5, 1) := dk_8 (dk_at dksX6_asks_3 4 rfl rfl)
theorem dX6_asks_77 : decode cX6_asks 77 = .ok (.invokevirtual 196, 3) := dk_182 0 196 (dk_at dksX6_asks_3 5 rfl rfl)
theorem dX6_asks_80 : decode cX6_asks 80 = .ok (.if_icmp .le 25, 3) := dk_164 0 25 (dk_at dksX6_asks_3 8 rfl rfl)
theorem dX6_asks_83 : decode cX6_asks 83 = .ok (.aload_n 0, 1) := dk_42 (dk_at dksX6_asks_3 11 rfl rfl)
theorem dX6_asks_84 : decode cX6_asks 84 = .ok (.getfield 38, 3) := dk_180 0 38 (dk_at dksX6_asks_3 12 rfl rfl)
theorem dX6_asks_87 : decode cX6_asks 87 = .ok (.iload 4, 2) := dk_21 4 (dk_at dksX6_asks_3 15 rfl rfl)
theorem dX6_asks_89 : decode cX6_asks 89 = .ok (.aload_n 0, 1) := dk_42 (dk_at dksX6_asks_3 17 rfl rfl)
theorem dX6_asks_90 : decode cX6_asks 90 = .ok (.getfield 38, 3) := dk_180 0 38 (dk_at dksX6_asks_3 18 rfl rfl)
theorem dX6_asks_93 : decode cX6_asks 93 = .ok (.iload 4, 2) := dk_21 4 (dk_at dksX6_asks_3 21 rfl rfl)
theorem dX6_asks_95 : decode cX6_asks 95 = .ok (.iconst 1, 1) := dk_4 (dk_at dksX6_asks_3 23 rfl rfl)
theorem dX6_asks_96 : decode cX6_asks 96 = .ok (.isub, 1) := dk_100 (dk_at dksX6_asks_4 0 rfl rfl)
theorem dX6_asks_97 : decode cX6_asks 97 = .ok (.iaload, 1) := dk_46 (dk_at dksX6_asks_4 1 rfl rfl)
theorem dX6_asks_98 : decode cX6_asks 98 = .ok (.iastore, 1) := dk_79 (dk_at dksX6_asks_4 2 rfl rfl)
theorem dX6_asks_99 : decode cX6_asks 99 = .ok (.iinc 4 (-1), 3) := dk_132 4 255 (dk_at dksX6_asks_4 3 rfl rfl)
theorem dX6_asks_102 : decode cX6_asks 102 = .ok (.goto (-42), 3) := dk_167 255 214 (dk_at dksX6_asks_4 6 rfl rfl)
theorem dX6_asks_105 : decode cX6_asks 105 = .ok (.aload_n 0, 1) := dk_42 (dk_at dksX6_asks_4 9 rfl rfl)
theorem dX6_asks_106 : decode cX6_asks 106 = .ok (.getfield 38, 3) := dk_180 0 38 (dk_at dksX6_asks_4 10 rfl rfl)
theorem dX6_asks_109 : decode cX6_asks 109 = .ok (.iload 4, 2) := dk_21 4 (dk_at dksX6_asks_4 13 rfl rfl)
theorem dX6_asks_111 : decode cX6_asks 111 = .ok (.aload_n 0, 1) := dk_42 (dk_at dksX6_asks_4 15 rfl rfl)
theorem dX6_asks_112 : decode cX6_asks 112 = .ok (.iload_n 3, 1) := dk_29 (dk_at dksX6_asks_4 16 rfl rfl)
theorem dX6_asks_113 : decode cX6_asks 113 = .ok (.iconst 5, 1) := dk_8 (dk_at dksX6_asks_4 17 rfl rfl)
theorem dX6_asks_114 : decode cX6_asks 114 = .ok (.invokevirtual 196, 3) := dk_182 0 196 (dk_at dksX6_asks_4 18 rfl rfl)
theorem dX6_asks_117 : decode cX6_asks 117 = .ok (.iastore, 1) := dk_79 (dk_at dksX6_asks_4 21 rfl rfl)
theorem dX6_asks_118 : decode cX6_asks 118 = .ok (.aload_n 0, 1) := dk_42 (dk_at dksX6_asks_4 22 rfl rfl)
theorem dX6_asks_119 : decode cX6_asks 119 = .ok (.dup, 1) := dk_89 (dk_at dksX6_asks_4 23 rfl rfl)
theorem dX6_asks_120 : decode cX6_asks 120 = .ok (.getfield 256, 3) := dk_180 1 0 (dk_at dksX6_asks_5 0 rfl rfl)
theorem dX6_asks_123 : decode cX6_asks 123 = .ok (.iconst 1, 1) := dk_4 (dk_at dksX6_asks_5 3 rfl rfl)
theorem dX6_asks_124 : decode cX6_asks 124 = .ok (.iadd, 1) := dk_96 (dk_at dksX6_asks_5 4 rfl rfl)
theorem dX6_asks_125 : decode cX6_asks 125 = .ok (.putfield 256, 3) := dk_181 1 0 (dk_at dksX6_asks_5 5 rfl rfl)
theorem dX6_asks_128 : decode cX6_asks 128 = .ok (.iinc 3 1, 3) := dk_132 3 1 (dk_at dksX6_asks_5 8 rfl rfl)
theorem dX6_asks_131 : decode cX6_asks 131 = .ok (.goto (-118), 3) := dk_167 255 138 (dk_at dksX6_asks_5 11 rfl rfl)
theorem dX6_asks_134 : decode cX6_asks 134 = .ok (.iload_n 2, 1) := dk_28 (dk_at dksX6_asks_5 14 rfl rfl)
theorem dX6_asks_135 : decode cX6_asks 135 = .ok (.ireturn, 1) := dk_172 (dk_at dksX6_asks_5 15 rfl rfl)
abbrev cX6_knownOf : ByteArray := prog_23_method_62_code
def yX6_knownOf : MethodName := ⟨RX6, "knownOf", "(I)I"⟩
def dkwX6_knownOf_2 : List UInt8 := [61, 132, 3, 1, 167, 255, 210, 28, 172]
abbrev dktX6_knownOf_2 : List UInt8 := dkwX6_knownOf_2 ++ []
def dkwX6_knownOf_1 : List UInt8 := [154, 0, 22, 42, 29, 5, 182, 0, 196, 27, 160, 0, 12, 42, 29, 8, 182, 0, 196, 167, 0, 4, 3, 96]
abbrev dktX6_knownOf_1 : List UInt8 := dkwX6_knownOf_1 ++ dktX6_knownOf_2
def dkwX6_knownOf_0 : List UInt8 := [3, 61, 3, 62, 29, 42, 180, 0, 7, 7, 46, 162, 0, 42, 28, 42, 29, 16, 6, 182, 0, 196]
abbrev dktX6_knownOf_0 : List UInt8 := dkwX6_knownOf_0 ++ dktX6_knownOf_1
theorem dksX6_knownOf_0 : cX6_knownOf.data.toList.drop 0 = dktX6_knownOf_0 := by decide +kernel
theorem dksX6_knownOf_1 : cX6_knownOf.data.toList.drop 22 = dktX6_knownOf_1 := dk_seg dksX6_knownOf_0 22 rfl rfl
theorem dksX6_knownOf_2 : cX6_knownOf.data.toList.drop 46 = dktX6_knownOf_2 := dk_seg dksX6_knownOf_1 24 rfl rfl
theorem dX6_knownOf_0 : decode cX6_knownOf 0 = .ok (.iconst 0, 1) := dk_3 (dk_at dksX6_knownOf_0 0 rfl rfl)
theorem dX6_knownOf_1 : decode cX6_knownOf 1 = .ok (.istore_n 2, 1) := dk_61 (dk_at dksX6_knownOf_0 1 rfl rfl)
theorem dX6_knownOf_2 : decode cX6_knownOf 2 = .ok (.iconst 0, 1) := dk_3 (dk_at dksX6_knownOf_0 2 rfl rfl)
theorem dX6_knownOf_3 : decode cX6_knownOf 3 = .ok (.istore_n 3, 1) := dk_62 (dk_at dksX6_knownOf_0 3 rfl rfl)
theorem dX6_knownOf_4 : decode cX6_knownOf 4 = .ok (.iload_n 3, 1) := dk_29 (dk_at dksX6_knownOf_0 4 rfl rfl)
theorem dX6_knownOf_5 : decode cX6_knownOf 5 = .ok (.aload_n 0, 1) := dk_42 (dk_at dksX6_knownOf_0 5 rfl rfl)
theorem dX6_knownOf_6 : decode cX6_knownOf 6 = .ok (.getfield 7, 3) := dk_180 0 7 (dk_at dksX6_knownOf_0 6 rfl rfl)
theorem dX6_knownOf_9 : decode cX6_knownOf 9 = .ok (.iconst 4, 1) := dk_7 (dk_at dksX6_knownOf_0 9 rfl rfl)
theorem dX6_knownOf_10 : decode cX6_knownOf 10 = .ok (.iaload, 1) := dk_46 (dk_at dksX6_knownOf_0 10 rfl rfl)
theorem dX6_knownOf_11 : decode cX6_knownOf 11 = .ok (.if_icmp .ge 42, 3) := dk_162 0 42 (dk_at dksX6_knownOf_0 11 rfl rfl)
theorem dX6_knownOf_14 : decode cX6_knownOf 14 = .ok (.iload_n 2, 1) := dk_28 (dk_at dksX6_knownOf_0 14 rfl rfl)
theorem dX6_knownOf_15 : decode cX6_knownOf 15 = .ok (.aload_n 0, 1) := dk_42 (dk_at dksX6_knownOf_0 15 rfl rfl)
theorem dX6_knownOf_16 : decode cX6_knownOf 16 = .ok (.iload_n 3, 1) := dk_29 (dk_at dksX6_knownOf_0 16 rfl rfl)
theorem dX6_knownOf_17 : decode cX6_knownOf 17 = .ok (.bipush 6, 2) := dk_16 6 (dk_at dksX6_knownOf_0 17 rfl rfl)
theorem dX6_knownOf_19 : decode cX6_knownOf 19 = .ok (.invokevirtual 196, 3) := dk_182 0 196 (dk_at dksX6_knownOf_0 19 rfl rfl)
theorem dX6_knownOf_22 : decode cX6_knownOf 22 = .ok (.ifCond .ne 22, 3) := dk_154 0 22 (dk_at dksX6_knownOf_1 0 rfl rfl)
theorem dX6_knownOf_25 : decode cX6_knownOf 25 = .ok (.aload_n 0, 1) := dk_42 (dk_at dksX6_knownOf_1 3 rfl rfl)
theorem dX6_knownOf_26 : decode cX6_knownOf 26 = .ok (.iload_n 3, 1) := dk_29 (dk_at dksX6_knownOf_1 4 rfl rfl)
theorem dX6_knownOf_27 : decode cX6_knownOf 27 = .ok (.iconst 2, 1) := dk_5 (dk_at dksX6_knownOf_1 5 rfl rfl)
theorem dX6_knownOf_28 : decode cX6_knownOf 28 = .ok (.invokevirtual 196, 3) := dk_182 0 196 (dk_at dksX6_knownOf_1 6 rfl rfl)
theorem dX6_knownOf_31 : decode cX6_knownOf 31 = .ok (.iload_n 1, 1) := dk_27 (dk_at dksX6_knownOf_1 9 rfl rfl)
theorem dX6_knownOf_32 : decode cX6_knownOf 32 = .ok (.if_icmp .ne 12, 3) := dk_160 0 12 (dk_at dksX6_knownOf_1 10 rfl rfl)
theorem dX6_knownOf_35 : decode cX6_knownOf 35 = .ok (.aload_n 0, 1) := dk_42 (dk_at dksX6_knownOf_1 13 rfl rfl)
theorem dX6_knownOf_36 : decode cX6_knownOf 36 = .ok (.iload_n 3, 1) := dk_29 (dk_at dksX6_knownOf_1 14 rfl rfl)
theorem dX6_knownOf_37 : decode cX6_knownOf 37 = .ok (.iconst 5, 1) := dk_8 (dk_at dksX6_knownOf_1 15 rfl rfl)
theorem dX6_knownOf_38 : decode cX6_knownOf 38 = .ok (.invokevirtual 196, 3) := dk_182 0 196 (dk_at dksX6_knownOf_1 16 rfl rfl)
theorem dX6_knownOf_41 : decode cX6_knownOf 41 = .ok (.goto 4, 3) := dk_167 0 4 (dk_at dksX6_knownOf_1 19 rfl rfl)
theorem dX6_knownOf_44 : decode cX6_knownOf 44 = .ok (.iconst 0, 1) := dk_3 (dk_at dksX6_knownOf_1 22 rfl rfl)
theorem dX6_knownOf_45 : decode cX6_knownOf 45 = .ok (.iadd, 1) := dk_96 (dk_at dksX6_knownOf_1 23 rfl rfl)
theorem dX6_knownOf_46 : decode cX6_knownOf 46 = .ok (.istore_n 2, 1) := dk_61 (dk_at dksX6_knownOf_2 0 rfl rfl)
theorem dX6_knownOf_47 : decode cX6_knownOf 47 = .ok (.iinc 3 1, 3) := dk_132 3 1 (dk_at dksX6_knownOf_2 1 rfl rfl)
theorem dX6_knownOf_50 : decode cX6_knownOf 50 = .ok (.goto (-46), 3) := dk_167 255 210 (dk_at dksX6_knownOf_2 4 rfl rfl)
theorem dX6_knownOf_53 : decode cX6_knownOf 53 = .ok (.iload_n 2, 1) := dk_28 (dk_at dksX6_knownOf_2 7 rfl rfl)
theorem dX6_knownOf_54 : decode cX6_knownOf 54 = .ok (.ireturn, 1) := dk_172 (dk_at dksX6_knownOf_2 8 rfl rfl)
abbrev cX6_proof : ByteArray := prog_23_method_65_code
def yX6_proof : MethodName := ⟨RX6, "proof", "(II)I"⟩
def dkwX6_proof_4 : List UInt8 := [154, 0, 7, 5, 167, 0, 4, 4, 172]
abbrev dktX6_proof_4 : List UInt8 := dkwX6_proof_4 ++ []
def dkwX6_proof_3 : List UInt8 := [3, 29, 21, 5, 182, 1, 15, 42, 180, 1, 9, 154, 0, 7, 3, 167, 0, 15, 42, 180, 1, 12]
abbrev dktX6_proof_3 : List UInt8 := dkwX6_proof_3 ++ dktX6_proof_4
def dkwX6_proof_2 : List UInt8 := [54, 4, 28, 155, 0, 10, 28, 19, 1, 19, 164, 0, 7, 2, 167, 0, 7, 28, 21, 4, 100, 54, 5, 42]
abbrev dktX6_proof_2 : List UInt8 := dkwX6_proof_2 ++ dktX6_proof_3
def dkwX6_proof_1 : List UInt8 := [3, 172, 42, 27, 182, 1, 3, 62, 42, 3, 181, 1, 9, 42, 3, 181, 1, 12, 42, 27, 182, 1, 6]
abbrev dktX6_proof_1 : List UInt8 := dkwX6_proof_1 ++ dktX6_proof_2
def dkwX6_proof_0 : List UInt8 := [42, 42, 27, 182, 0, 200, 154, 0, 7, 4, 167, 0, 4, 3, 181, 0, 41, 42, 180, 0, 41, 158, 0, 5]
abbrev dktX6_proof_0 : List UInt8 := dkwX6_proof_0 ++ dktX6_proof_1
theorem dksX6_proof_0 : cX6_proof.data.toList.drop 0 = dktX6_proof_0 := by decide +kernel
theorem dksX6_proof_1 : cX6_proof.data.toList.drop 24 = dktX6_proof_1 := dk_seg dksX6_proof_0 24 rfl rfl
theorem dksX6_proof_2 : cX6_proof.data.toList.drop 47 = dktX6_proof_2 := dk_seg dksX6_proof_1 23 rfl rfl
theorem dksX6_proof_3 : cX6_proof.data.toList.drop 71 = dktX6_proof_3 := dk_seg dksX6_proof_2 24 rfl rfl
theorem dksX6_proof_4 : cX6_proof.data.toList.drop 93 = dktX6_proof_4 := dk_seg dksX6_proof_3 22 rfl rfl
theorem dX6_proof_0 : decode cX6_proof 0 = .ok (.aload_n 0, 1) := dk_42 (dk_at dksX6_proof_0 0 rfl rfl)
theorem dX6_proof_1 : decode cX6_proof 1 = .ok (.aload_n 0, 1) := dk_42 (dk_at dksX6_proof_0 1 rfl rfl)
theorem dX6_proof_2 : decode cX6_proof 2 = .ok (.iload_n 1, 1) := dk_27 (dk_at dksX6_proof_0 2 rfl rfl)
theorem dX6_proof_3 : decode cX6_proof 3 = .ok (.invokevirtual 200, 3) := dk_182 0 200 (dk_at dksX6_proof_0 3 rfl rfl)
theorem dX6_proof_6 : decode cX6_proof 6 = .ok (.ifCond .ne 7, 3) := dk_154 0 7 (dk_at dksX6_proof_0 6 rfl rfl)
theorem dX6_proof_9 : decode cX6_proof 9 = .ok (.iconst 1, 1) := dk_4 (dk_at dksX6_proof_0 9 rfl rfl)
theorem dX6_proof_10 : decode cX6_proof 10 = .ok (.goto 4, 3) := dk_167 0 4 (dk_at dksX6_proof_0 10 rfl rfl)
theorem dX6_proof_13 : decode cX6_proof 13 = .ok (.iconst 0, 1) := dk_3 (dk_at dksX6_proof_0 13 rfl rfl)
theorem dX6_proof_14 : decode cX6_proof 14 = .ok (.putfield 41, 3) := dk_181 0 41 (dk_at dksX6_proof_0 14 rfl rfl)
theorem dX6_proof_17 : decode cX6_proof 17 = .ok (.aload_n 0, 1) := dk_42 (dk_at dksX6_proof_0 17 rfl rfl)
theorem dX6_proof_18 : decode cX6_proof 18 = .ok (.getfield 41, 3) := dk_180 0 41 (dk_at dksX6_proof_0 18 rfl rfl)
theorem dX6_proof_21 : decode cX6_proof 21 = .ok (.ifCond .le 5, 3) := dk_158 0 5 (dk_at dksX6_proof_0 21 rfl rfl)
theorem dX6_proof_24 : decode cX6_proof 24 = .ok (.iconst 0, 1) := dk_3 (dk_at dksX6_proof_1 0 rfl rfl)
theorem dX6_proof_25 : decode cX6_proof 25 = .ok (.ireturn, 1) := dk_172 (dk_at dksX6_proof_1 1 rfl rfl)
theorem dX6_proof_26 : decode cX6_proof 26 = .ok (.aload_n 0, 1) := dk_42 (dk_at dksX6_proof_1 2 rfl rfl)
theorem dX6_proof_27 : decode cX6_proof 27 = .ok (.iload_n 1, 1) := dk_27 (dk_at dksX6_proof_1 3 rfl rfl)
theorem dX6_proof_28 : decode cX6_proof 28 = .ok (.invokevirtual 259, 3) := dk_182 1 3 (dk_at dksX6_proof_1 4 rfl rfl)
theorem dX6_proof_31 : decode cX6_proof 31 = .ok (.istore_n 3, 1) := dk_62 (dk_at dksX6_proof_1 7 rfl rfl)
theorem dX6_proof_32 : decode cX6_proof 32 = .ok (.aload_n 0, 1) := dk_42 (dk_at dksX6_proof_1 8 rfl rfl)
theorem dX6_proof_33 : decode cX6_proof 33 = .ok (.iconst 0, 1) := dk_3 (dk_at dksX6_proof_1 9 rfl rfl)
theorem dX6_proof_34 : decode cX6_proof 34 = .ok (.putfield 265, 3) := dk_181 1 9 (dk_at dksX6_proof_1 10 rfl rfl)
theorem dX6_proof_37 : decode cX6_proof 37 = .ok (.aload_n 0, 1) := dk_42 (dk_at dksX6_proof_1 13 rfl rfl)
theorem dX6_proof_38 : decode cX6_proof 38 = .ok (.iconst 0, 1) := dk_3 (dk_at dksX6_proof_1 14 rfl rfl)
theorem dX6_proof_39 : decode cX6_proof 39 = .ok (.putfield 268, 3) := dk_181 1 12 (dk_at dksX6_proof_1 15 rfl rfl)
theorem dX6_proof_42 : decode cX6_proof 42 = .ok (.aload_n 0, 1) := dk_42 (dk_at dksX6_proof_1 18 rfl rfl)
theorem dX6_proof_43 : decode cX6_proof 43 = .ok (.iload_n 1, 1) := dk_27 (dk_at dksX6_proof_1 19 rfl rfl)
theorem dX6_proof_44 : decode cX6_proof 44 = .ok (.invokevirtual 262, 3) := dk_182 1 6 (dk_at dksX6_proof_1 20 rfl rfl)
theorem dX6_proof_47 : decode cX6_proof 47 = .ok (.istore 4, 2) := dk_54 4 (dk_at dksX6_proof_2 0 rfl rfl)
theorem dX6_proof_49 : decode cX6_proof 49 = .ok (.iload_n 2, 1) := dk_28 (dk_at dksX6_proof_2 2 rfl rfl)
theorem dX6_proof_50 : decode cX6_proof 50 = .ok (.ifCond .lt 10, 3) := dk_155 0 10 (dk_at dksX6_proof_2 3 rfl rfl)
theorem dX6_proof_53 : decode cX6_proof 53 = .ok (.iload_n 2, 1) := dk_28 (dk_at dksX6_proof_2 6 rfl rfl)
theorem dX6_proof_54 : decode cX6_proof 54 = .ok (.ldc_w 275, 3) := dk_19 1 19 (dk_at dksX6_proof_2 7 rfl rfl)
theorem dX6_proof_57 : decode cX6_proof 57 = .ok (.if_icmp .le 7, 3) := dk_164 0 7 (dk_at dksX6_proof_2 10 rfl rfl)
theorem dX6_proof_60 : decode cX6_proof 60 = .ok (.iconst (-1), 1) := dk_2 (dk_at dksX6_proof_2 13 rfl rfl)
theorem dX6_proof_61 : decode cX6_proof 61 = .ok (.goto 7, 3) := dk_167 0 7 (dk_at dksX6_proof_2 14 rfl rfl)
theorem dX6_proof_64 : decode cX6_proof 64 = .ok (.iload_n 2, 1) := dk_28 (dk_at dksX6_proof_2 17 rfl rfl)
theorem dX6_proof_65 : decode cX6_proof 65 = .ok (.iload 4, 2) := dk_21 4 (dk_at dksX6_proof_2 18 rfl rfl)
theorem dX6_proof_67 : decode cX6_proof 67 = .ok (.isub, 1) := dk_100 (dk_at dksX6_proof_2 20 rfl rfl)
theorem dX6_proof_68 : decode cX6_proof 68 = .ok (.istore 5, 2) := dk_54 5 (dk_at dksX6_proof_2 21 rfl rfl)
theorem dX6_proof_70 : decode cX6_proof 70 = .ok (.aload_n 0, 1) := dk_42 (dk_at dksX6_proof_2 23 rfl rfl)
theorem dX6_proof_71 : decode cX6_proof 71 = .ok (.iconst 0, 1) := dk_3 (dk_at dksX6_proof_3 0 rfl rfl)
theorem dX6_proof_72 : decode cX6_proof 72 = .ok (.iload_n 3, 1) := dk_29 (dk_at dksX6_proof_3 1 rfl rfl)
theorem dX6_proof_73 : decode cX6_proof 73 = .ok (.iload 5, 2) := dk_21 5 (dk_at dksX6_proof_3 2 rfl rfl)
theorem dX6_proof_75 : decode cX6_proof 75 = .ok (.invokevirtual 271, 3) := dk_182 1 15 (dk_at dksX6_proof_3 4 rfl rfl)
theorem dX6_proof_78 : decode cX6_proof 78 = .ok (.aload_n 0, 1) := dk_42 (dk_at dksX6_proof_3 7 rfl rfl)
theorem dX6_proof_79 : decode cX6_proof 79 = .ok (.getfield 265, 3) := dk_180 1 9 (dk_at dksX6_proof_3 8 rfl rfl)
theorem dX6_proof_82 : decode cX6_proof 82 = .ok (.ifCond .ne 7, 3) := dk_154 0 7 (dk_at dksX6_proof_3 11 rfl rfl)
theorem dX6_proof_85 : decode cX6_proof 85 = .ok (.iconst 0, 1) := dk_3 (dk_at dksX6_proof_3 14 rfl rfl)
theorem dX6_proof_86 : decode cX6_proof 86 = .ok (.goto 15, 3) := dk_167 0 15 (dk_at dksX6_proof_3 15 rfl rfl)
theorem dX6_proof_89 : decode cX6_proof 89 = .ok (.aload_n 0, 1) := dk_42 (dk_at dksX6_proof_3 18 rfl rfl)
theorem dX6_proof_90 : decode cX6_proof 90 = .ok (.getfield 268, 3) := dk_180 1 12 (dk_at dksX6_proof_3 19 rfl rfl)
theorem dX6_proof_93 : decode cX6_proof 93 = .ok (.ifCond .ne 7, 3) := dk_154 0 7 (dk_at dksX6_proof_4 0 rfl rfl)
theorem dX6_proof_96 : decode cX6_proof 96 = .ok (.iconst 2, 1) := dk_5 (dk_at dksX6_proof_4 3 rfl rfl)
theorem dX6_proof_97 : decode cX6_proof 97 = .ok (.goto 4, 3) := dk_167 0 4 (dk_at dksX6_proof_4 4 rfl rfl)
theorem dX6_proof_100 : decode cX6_proof 100 = .ok (.iconst 1, 1) := dk_4 (dk_at dksX6_proof_4 7 rfl rfl)
theorem dX6_proof_101 : decode cX6_proof 101 = .ok (.ireturn, 1) := dk_172 (dk_at dksX6_proof_4 8 rfl rfl)
abbrev cX6_sets : ByteArray := prog_23_method_64_code
def yX6_sets : MethodName := ⟨RX6, "sets", "(III)V"⟩
def dkwX6_sets_3 : List UInt8 := [167, 255, 222, 177]
abbrev dktX6_sets_3 : List UInt8 := dkwX6_sets_3 ++ []
def dkwX6_sets_2 : List UInt8 := [21, 4, 4, 96, 28, 4, 100, 29, 42, 180, 0, 38, 21, 4, 46, 100, 182, 1, 15, 132, 4, 1]
abbrev dktX6_sets_2 : List UInt8 := dkwX6_sets_2 ++ dktX6_sets_3
def dkwX6_sets_1 : List UInt8 := [180, 1, 12, 4, 96, 181, 1, 12, 177, 27, 54, 4, 21, 4, 42, 180, 1, 0, 28, 100, 163, 0, 29, 42]
abbrev dktX6_sets_1 : List UInt8 := dkwX6_sets_1 ++ dktX6_sets_2
def dkwX6_sets_0 : List UInt8 := [28, 154, 0, 31, 29, 154, 0, 16, 42, 89, 180, 1, 9, 4, 96, 181, 1, 9, 167, 0, 13, 42, 89]
abbrev dktX6_sets_0 : List UInt8 := dkwX6_sets_0 ++ dktX6_sets_1
theorem dksX6_sets_0 : cX6_sets.data.toList.drop 0 = dktX6_sets_0 := by decide +kernel
theorem dksX6_sets_1 : cX6_sets.data.toList.drop 23 = dktX6_sets_1 := dk_seg dksX6_sets_0 23 rfl rfl
theorem dksX6_sets_2 : cX6_sets.data.toList.drop 47 = dktX6_sets_2 := dk_seg dksX6_sets_1 24 rfl rfl
theorem dksX6_sets_3 : cX6_sets.data.toList.drop 69 = dktX6_sets_3 := dk_seg dksX6_sets_2 22 rfl rfl
theorem dX6_sets_0 : decode cX6_sets 0 = .ok (.iload_n 2, 1) := dk_28 (dk_at dksX6_sets_0 0 rfl rfl)
theorem dX6_sets_1 : decode cX6_sets 1 = .ok (.ifCond .ne 31, 3) := dk_154 0 31 (dk_at dksX6_sets_0 1 rfl rfl)
theorem dX6_sets_4 : decode cX6_sets 4 = .ok (.iload_n 3, 1) := dk_29 (dk_at dksX6_sets_0 4 rfl rfl)
theorem dX6_sets_5 : decode cX6_sets 5 = .ok (.ifCond .ne 16, 3) := dk_154 0 16 (dk_at dksX6_sets_0 5 rfl rfl)
theorem dX6_sets_8 : decode cX6_sets 8 = .ok (.aload_n 0, 1) := dk_42 (dk_at dksX6_sets_0 8 rfl rfl)
theorem dX6_sets_9 : decode cX6_sets 9 = .ok (.dup, 1) := dk_89 (dk_at dksX6_sets_0 9 rfl rfl)
theorem dX6_sets_10 : decode cX6_sets 10 = .ok (.getfield 265, 3) := dk_180 1 9 (dk_at dksX6_sets_0 10 rfl rfl)
theorem dX6_sets_13 : decode cX6_sets 13 = .ok (.iconst 1, 1) := dk_4 (dk_at dksX6_sets_0 13 rfl rfl)
theorem dX6_sets_14 : decode cX6_sets 14 = .ok (.iadd, 1) := dk_96 (dk_at dksX6_sets_0 14 rfl rfl)
theorem dX6_sets_15 : decode cX6_sets 15 = .ok (.putfield 265, 3) := dk_181 1 9 (dk_at dksX6_sets_0 15 rfl rfl)
theorem dX6_sets_18 : decode cX6_sets 18 = .ok (.goto 13, 3) := dk_167 0 13 (dk_at dksX6_sets_0 18 rfl rfl)
theorem dX6_sets_21 : decode cX6_sets 21 = .ok (.aload_n 0, 1) := dk_42 (dk_at dksX6_sets_0 21 rfl rfl)
theorem dX6_sets_22 : decode cX6_sets 22 = .ok (.dup, 1) := dk_89 (dk_at dksX6_sets_0 22 rfl rfl)
theorem dX6_sets_23 : decode cX6_sets 23 = .ok (.getfield 268, 3) := dk_180 1 12 (dk_at dksX6_sets_1 0 rfl rfl)
theorem dX6_sets_26 : decode cX6_sets 26 = .ok (.iconst 1, 1) := dk_4 (dk_at dksX6_sets_1 3 rfl rfl)
theorem dX6_sets_27 : decode cX6_sets 27 = .ok (.iadd, 1) := dk_96 (dk_at dksX6_sets_1 4 rfl rfl)
theorem dX6_sets_28 : decode cX6_sets 28 = .ok (.putfield 268, 3) := dk_181 1 12 (dk_at dksX6_sets_1 5 rfl rfl)
theorem dX6_sets_31 : decode cX6_sets 31 = .ok (.return_, 1) := dk_177 (dk_at dksX6_sets_1 8 rfl rfl)
theorem dX6_sets_32 : decode cX6_sets 32 = .ok (.iload_n 1, 1) := dk_27 (dk_at dksX6_sets_1 9 rfl rfl)
theorem dX6_sets_33 : decode cX6_sets 33 = .ok (.istore 4, 2) := dk_54 4 (dk_at dksX6_sets_1 10 rfl rfl)
theorem dX6_sets_35 : decode cX6_sets 35 = .ok (.iload 4, 2) := dk_21 4 (dk_at dksX6_sets_1 12 rfl rfl)
theorem dX6_sets_37 : decode cX6_sets 37 = .ok (.aload_n 0, 1) := dk_42 (dk_at dksX6_sets_1 14 rfl rfl)
theorem dX6_sets_38 : decode cX6_sets 38 = .ok (.getfield 256, 3) := dk_180 1 0 (dk_at dksX6_sets_1 15 rfl rfl)
theorem dX6_sets_41 : decode cX6_sets 41 = .ok (.iload_n 2, 1) := dk_28 (dk_at dksX6_sets_1 18 rfl rfl)
theorem dX6_sets_42 : decode cX6_sets 42 = .ok (.isub, 1) := dk_100 (dk_at dksX6_sets_1 19 rfl rfl)
theorem dX6_sets_43 : decode cX6_sets 43 = .ok (.if_icmp .gt 29, 3) := dk_163 0 29 (dk_at dksX6_sets_1 20 rfl rfl)
theorem dX6_sets_46 : decode cX6_sets 46 = .ok (.aload_n 0, 1) := dk_42 (dk_at dksX6_sets_1 23 rfl rfl)
theorem dX6_sets_47 : decode cX6_sets 47 = .ok (.iload 4, 2) := dk_21 4 (dk_at dksX6_sets_2 0 rfl rfl)
theorem dX6_sets_49 : decode cX6_sets 49 = .ok (.iconst 1, 1) := dk_4 (dk_at dksX6_sets_2 2 rfl rfl)
theorem dX6_sets_50 : decode cX6_sets 50 = .ok (.iadd, 1) := dk_96 (dk_at dksX6_sets_2 3 rfl rfl)
theorem dX6_sets_51 : decode cX6_sets 51 = .ok (.iload_n 2, 1) := dk_28 (dk_at dksX6_sets_2 4 rfl rfl)
theorem dX6_sets_52 : decode cX6_sets 52 = .ok (.iconst 1, 1) := dk_4 (dk_at dksX6_sets_2 5 rfl rfl)
theorem dX6_sets_53 : decode cX6_sets 53 = .ok (.isub, 1) := dk_100 (dk_at dksX6_sets_2 6 rfl rfl)
theorem dX6_sets_54 : decode cX6_sets 54 = .ok (.iload_n 3, 1) := dk_29 (dk_at dksX6_sets_2 7 rfl rfl)
theorem dX6_sets_55 : decode cX6_sets 55 = .ok (.aload_n 0, 1) := dk_42 (dk_at dksX6_sets_2 8 rfl rfl)
theorem dX6_sets_56 : decode cX6_sets 56 = .ok (.getfield 38, 3) := dk_180 0 38 (dk_at dksX6_sets_2 9 rfl rfl)
theorem dX6_sets_59 : decode cX6_sets 59 = .ok (.iload 4, 2) := dk_21 4 (dk_at dksX6_sets_2 12 rfl rfl)
theorem dX6_sets_61 : decode cX6_sets 61 = .ok (.iaload, 1) := dk_46 (dk_at dksX6_sets_2 14 rfl rfl)
theorem dX6_sets_62 : decode cX6_sets 62 = .ok (.isub, 1) := dk_100 (dk_at dksX6_sets_2 15 rfl rfl)
theorem dX6_sets_63 : decode cX6_sets 63 = .ok (.invokevirtual 271, 3) := dk_182 1 15 (dk_at dksX6_sets_2 16 rfl rfl)
theorem dX6_sets_66 : decode cX6_sets 66 = .ok (.iinc 4 1, 3) := dk_132 4 1 (dk_at dksX6_sets_2 19 rfl rfl)
theorem dX6_sets_69 : decode cX6_sets 69 = .ok (.goto (-34), 3) := dk_167 255 222 (dk_at dksX6_sets_3 0 rfl rfl)
theorem dX6_sets_72 : decode cX6_sets 72 = .ok (.return_, 1) := dk_177 (dk_at dksX6_sets_3 3 rfl rfl)
abbrev cX6_ways : ByteArray := prog_23_method_66_code
def yX6_ways : MethodName := ⟨RX6, "ways", "()J"⟩
def dkwX6_ways_3 : List UInt8 := [22, 6, 105, 65, 27, 21, 5, 100, 60, 132, 4, 1, 167, 255, 188, 32, 173]
abbrev dktX6_ways_3 : List UInt8 := dkwX6_ways_3 ++ []
def dkwX6_ways_2 : List UInt8 := [22, 6, 27, 21, 5, 100, 21, 8, 96, 133, 105, 21, 8, 133, 109, 55, 6, 132, 8, 1, 167, 255, 229, 32]
abbrev dktX6_ways_2 : List UInt8 := dkwX6_ways_2 ++ dktX6_ways_3
def dkwX6_ways_1 : List UInt8 := [162, 0, 63, 42, 21, 4, 182, 1, 3, 54, 5, 10, 55, 6, 4, 54, 8, 21, 8, 21, 5, 163, 0, 26]
abbrev dktX6_ways_1 : List UInt8 := dkwX6_ways_1 ++ dktX6_ways_2
def dkwX6_ways_0 : List UInt8 := [42, 3, 181, 0, 41, 42, 182, 0, 253, 60, 10, 65, 3, 54, 4, 21, 4, 42, 180, 0, 7, 4, 46]
abbrev dktX6_ways_0 : List UInt8 := dkwX6_ways_0 ++ dktX6_ways_1
theorem dksX6_ways_0 : cX6_ways.data.toList.drop 0 = dktX6_ways_0 := by decide +kernel
theorem dksX6_ways_1 : cX6_ways.data.toList.drop 23 = dktX6_ways_1 := dk_seg dksX6_ways_0 23 rfl rfl
theorem dksX6_ways_2 : cX6_ways.data.toList.drop 47 = dktX6_ways_2 := dk_seg dksX6_ways_1 24 rfl rfl
theorem dksX6_ways_3 : cX6_ways.data.toList.drop 71 = dktX6_ways_3 := dk_seg dksX6_ways_2 24 rfl rfl
theorem dX6_ways_0 : decode cX6_ways 0 = .ok (.aload_n 0, 1) := dk_42 (dk_at dksX6_ways_0 0 rfl rfl)
theorem dX6_ways_1 : decode cX6_ways 1 = .ok (.iconst 0, 1) := dk_3 (dk_at dksX6_ways_0 1 rfl rfl)
theorem dX6_ways_2 : decode cX6_ways 2 = .ok (.putfield 41, 3) := dk_181 0 41 (dk_at dksX6_ways_0 2 rfl rfl)
theorem dX6_ways_5 : decode cX6_ways 5 = .ok (.aload_n 0, 1) := dk_42 (dk_at dksX6_ways_0 5 rfl rfl)
theorem dX6_ways_6 : decode cX6_ways 6 = .ok (.invokevirtual 253, 3) := dk_182 0 253 (dk_at dksX6_ways_0 6 rfl rfl)
theorem dX6_ways_9 : decode cX6_ways 9 = .ok (.istore_n 1, 1) := dk_60 (dk_at dksX6_ways_0 9 rfl rfl)
theorem dX6_ways_10 : decode cX6_ways 10 = .ok (.lconst 1, 1) := dk_10 (dk_at dksX6_ways_0 10 rfl rfl)
theorem dX6_ways_11 : decode cX6_ways 11 = .ok (.lstore_n 2, 1) := dk_65 (dk_at dksX6_ways_0 11 rfl rfl)
theorem dX6_ways_12 : decode cX6_ways 12 = .ok (.iconst 0, 1) := dk_3 (dk_at dksX6_ways_0 12 rfl rfl)
theorem dX6_ways_13 : decode cX6_ways 13 = .ok (.istore 4, 2) := dk_54 4 (dk_at dksX6_ways_0 13 rfl rfl)
theorem dX6_ways_15 : decode cX6_ways 15 = .ok (.iload 4, 2) := dk_21 4 (dk_at dksX6_ways_0 15 rfl rfl)
theorem dX6_ways_17 : decode cX6_ways 17 = .ok (.aload_n 0, 1) := dk_42 (dk_at dksX6_ways_0 17 rfl rfl)
theorem dX6_ways_18 : decode cX6_ways 18 = .ok (.getfield 7, 3) := dk_180 0 7 (dk_at dksX6_ways_0 18 rfl rfl)
theorem dX6_ways_21 : decode cX6_ways 21 = .ok (.iconst 1, 1) := dk_4 (dk_at dksX6_ways_0 21 rfl rfl)
theorem dX6_ways_22 : decode cX6_ways 22 = .ok (.iaload, 1) := dk_46 (dk_at dksX6_ways_0 22 rfl rfl)
theorem dX6_ways_23 : decode cX6_ways 23 = .ok (.if_icmp .ge 63, 3) := dk_162 0 63 (dk_at dksX6_ways_1 0 rfl rfl)
theorem dX6_ways_26 : decode cX6_ways 26 = .ok (.aload_n 0, 1) := dk_42 (dk_at dksX6_ways_1 3 rfl rfl)
theorem dX6_ways_27 : decode cX6_ways 27 = .ok (.iload 4, 2) := dk_21 4 (dk_at dksX6_ways_1 4 rfl rfl)
theorem dX6_ways_29 : decode cX6_ways 29 = .ok (.invokevirtual 259, 3) := dk_182 1 3 (dk_at dksX6_ways_1 6 rfl rfl)
theorem dX6_ways_32 : decode cX6_ways 32 = .ok (.istore 5, 2) := dk_54 5 (dk_at dksX6_ways_1 9 rfl rfl)
theorem dX6_ways_34 : decode cX6_ways 34 = .ok (.lconst 1, 1) := dk_10 (dk_at dksX6_ways_1 11 rfl rfl)
theorem dX6_ways_35 : decode cX6_ways 35 = .ok (.lstore 6, 2) := dk_55 6 (dk_at dksX6_ways_1 12 rfl rfl)
theorem dX6_ways_37 : decode cX6_ways 37 = .ok (.iconst 1, 1) := dk_4 (dk_at dksX6_ways_1 14 rfl rfl)
theorem dX6_ways_38 : decode cX6_ways 38 = .ok (.istore 8, 2) := dk_54 8 (dk_at dksX6_ways_1 15 rfl rfl)
theorem dX6_ways_40 : decode cX6_ways 40 = .ok (.iload 8, 2) := dk_21 8 (dk_at dksX6_ways_1 17 rfl rfl)
theorem dX6_ways_42 : decode cX6_ways 42 = .ok (.iload 5, 2) := dk_21 5 (dk_at dksX6_ways_1 19 rfl rfl)
theorem dX6_ways_44 : decode cX6_ways 44 = .ok (.if_icmp .gt 26, 3) := dk_163 0 26 (dk_at dksX6_ways_1 21 rfl rfl)
theorem dX6_ways_47 : decode cX6_ways 47 = .ok (.lload 6, 2) := dk_22 6 (dk_at dksX6_ways_2 0 rfl rfl)
theorem dX6_ways_49 : decode cX6_ways 49 = .ok (.iload_n 1, 1) := dk_27 (dk_at dksX6_ways_2 2 rfl rfl)
theorem dX6_ways_50 : decode cX6_ways 50 = .ok (.iload 5, 2) := dk_21 5 (dk_at dksX6_ways_2 3 rfl rfl)
theorem dX6_ways_52 : decode cX6_ways 52 = .ok (.isub, 1) := dk_100 (dk_at dksX6_ways_2 5 rfl rfl)
theorem dX6_ways_53 : decode cX6_ways 53 = .ok (.iload 8, 2) := dk_21 8 (dk_at dksX6_ways_2 6 rfl rfl)
theorem dX6_ways_55 : decode cX6_ways 55 = .ok (.iadd, 1) := dk_96 (dk_at dksX6_ways_2 8 rfl rfl)
theorem dX6_ways_56 : decode cX6_ways 56 = .ok (.i2l, 1) := dk_133 (dk_at dksX6_ways_2 9 rfl rfl)
theorem dX6_ways_57 : decode cX6_ways 57 = .ok (.lmul, 1) := dk_105 (dk_at dksX6_ways_2 10 rfl rfl)
theorem dX6_ways_58 : decode cX6_ways 58 = .ok (.iload 8, 2) := dk_21 8 (dk_at dksX6_ways_2 11 rfl rfl)
theorem dX6_ways_60 : decode cX6_ways 60 = .ok (.i2l, 1) := dk_133 (dk_at dksX6_ways_2 13 rfl rfl)
theorem dX6_ways_61 : decode cX6_ways 61 = .ok (.ldiv, 1) := dk_109 (dk_at dksX6_ways_2 14 rfl rfl)
theorem dX6_ways_62 : decode cX6_ways 62 = .ok (.lstore 6, 2) := dk_55 6 (dk_at dksX6_ways_2 15 rfl rfl)
theorem dX6_ways_64 : decode cX6_ways 64 = .ok (.iinc 8 1, 3) := dk_132 8 1 (dk_at dksX6_ways_2 17 rfl rfl)
theorem dX6_ways_67 : decode cX6_ways 67 = .ok (.goto (-27), 3) := dk_167 255 229 (dk_at dksX6_ways_2 20 rfl rfl)
theorem dX6_ways_70 : decode cX6_ways 70 = .ok (.lload_n 2, 1) := dk_32 (dk_at dksX6_ways_2 23 rfl rfl)
theorem dX6_ways_71 : decode cX6_ways 71 = .ok (.lload 6, 2) := dk_22 6 (dk_at dksX6_ways_3 0 rfl rfl)
theorem dX6_ways_73 : decode cX6_ways 73 = .ok (.lmul, 1) := dk_105 (dk_at dksX6_ways_3 2 rfl rfl)
theorem dX6_ways_74 : decode cX6_ways 74 = .ok (.lstore_n 2, 1) := dk_65 (dk_at dksX6_ways_3 3 rfl rfl)
theorem dX6_ways_75 : decode cX6_ways 75 = .ok (.iload_n 1, 1) := dk_27 (dk_at dksX6_ways_3 4 rfl rfl)
theorem dX6_ways_76 : decode cX6_ways 76 = .ok (.iload 5, 2) := dk_21 5 (dk_at dksX6_ways_3 5 rfl rfl)
theorem dX6_ways_78 : decode cX6_ways 78 = .ok (.isub, 1) := dk_100 (dk_at dksX6_ways_3 7 rfl rfl)
theorem dX6_ways_79 : decode cX6_ways 79 = .ok (.istore_n 1, 1) := dk_60 (dk_at dksX6_ways_3 8 rfl rfl)
theorem dX6_ways_80 : decode cX6_ways 80 = .ok (.iinc 4 1, 3) := dk_132 4 1 (dk_at dksX6_ways_3 9 rfl rfl)
theorem dX6_ways_83 : decode cX6_ways 83 = .ok (.goto (-68), 3) := dk_167 255 188 (dk_at dksX6_ways_3 12 rfl rfl)
theorem dX6_ways_86 : decode cX6_ways 86 = .ok (.lload_n 2, 1) := dk_32 (dk_at dksX6_ways_3 15 rfl rfl)
theorem dX6_ways_87 : decode cX6_ways 87 = .ok (.lreturn, 1) := dk_173 (dk_at dksX6_ways_3 16 rfl rfl)
abbrev cX6_live : ByteArray := prog_23_method_68_code
def yX6_live : MethodName := ⟨RX6, "live", "(I)I"⟩
def dkwX6_live_7 : List UInt8 := [167, 255, 129, 42, 180, 0, 7, 7, 46, 28, 100, 172]
abbrev dktX6_live_7 : List UInt8 := dkwX6_live_7 ++ []
def dkwX6_live_6 : List UInt8 := [182, 0, 238, 87, 132, 4, 1, 167, 255, 154, 42, 180, 0, 7, 16, 8, 92, 46, 4, 96, 79, 132, 3, 1]
abbrev dktX6_live_6 : List UInt8 := dkwX6_live_6 ++ dktX6_live_7
def dkwX6_live_5 : List UInt8 := [21, 6, 182, 0, 234, 153, 0, 21, 42, 21, 4, 42, 21, 4, 5, 182, 0, 203, 21, 5, 21, 6]
abbrev dktX6_live_5 : List UInt8 := dkwX6_live_5 ++ dktX6_live_6
def dkwX6_live_4 : List UInt8 := [96, 54, 5, 42, 7, 182, 1, 21, 154, 0, 7, 4, 167, 0, 4, 3, 54, 6, 42, 21, 4, 21, 5]
abbrev dktX6_live_4 : List UInt8 := dkwX6_live_4 ++ dktX6_live_5
def dkwX6_live_3 : List UInt8 := [42, 21, 4, 6, 182, 0, 203, 161, 0, 6, 167, 0, 63, 42, 42, 180, 0, 7, 6, 46, 182, 1, 21, 4]
abbrev dktX6_live_3 : List UInt8 := dkwX6_live_3 ++ dktX6_live_4
def dkwX6_live_2 : List UInt8 := [42, 180, 0, 7, 5, 46, 162, 0, 97, 42, 180, 0, 7, 6, 46, 158, 0, 88, 42, 16, 100, 182, 1, 21]
abbrev dktX6_live_2 : List UInt8 := dkwX6_live_2 ++ dktX6_live_3
def dkwX6_live_1 : List UInt8 := [158, 0, 5, 3, 172, 42, 180, 0, 7, 7, 46, 61, 3, 62, 29, 27, 162, 0, 128, 3, 54, 4, 21, 4]
abbrev dktX6_live_1 : List UInt8 := dkwX6_live_1 ++ dktX6_live_2
def dkwX6_live_0 : List UInt8 := [42, 27, 4, 16, 99, 184, 0, 44, 154, 0, 7, 4, 167, 0, 4, 3, 181, 0, 41, 42, 180, 0, 41]
abbrev dktX6_live_0 : List UInt8 := dkwX6_live_0 ++ dktX6_live_1
theorem dksX6_live_0 : cX6_live.data.toList.drop 0 = dktX6_live_0 := by decide +kernel
theorem dksX6_live_1 : cX6_live.data.toList.drop 23 = dktX6_live_1 := dk_seg dksX6_live_0 23 rfl rfl
theorem dksX6_live_2 : cX6_live.data.toList.drop 47 = dktX6_live_2 := dk_seg dksX6_live_1 24 rfl rfl
theorem dksX6_live_3 : cX6_live.data.toList.drop 71 = dktX6_live_3 := dk_seg dksX6_live_2 24 rfl rfl
theorem dksX6_live_4 : cX6_live.data.toList.drop 95 = dktX6_live_4 := dk_seg dksX6_live_3 24 rfl rfl
theorem dksX6_live_5 : cX6_live.data.toList.drop 118 = dktX6_live_5 := dk_seg dksX6_live_4 23 rfl rfl
theorem dksX6_live_6 : cX6_live.data.toList.drop 140 = dktX6_live_6 := dk_seg dksX6_live_5 22 rfl rfl
theorem dksX6_live_7 : cX6_live.data.toList.drop 164 = dktX6_live_7 := dk_seg dksX6_live_6 24 rfl rfl
theorem dX6_live_0 : decode cX6_live 0 = .ok (.aload_n 0, 1) := dk_42 (dk_at dksX6_live_0 0 rfl rfl)
theorem dX6_live_1 : decode cX6_live 1 = .ok (.iload_n 1, 1) := dk_27 (dk_at dksX6_live_0 1 rfl rfl)
theorem dX6_live_2 : decode cX6_live 2 = .ok (.iconst 1, 1) := dk_4 (dk_at dksX6_live_0 2 rfl rfl)
theorem dX6_live_3 : decode cX6_live 3 = .ok (.bipush 99, 2) := dk_16 99 (dk_at dksX6_live_0 3 rfl rfl)
theorem dX6_live_5 : decode cX6_live 5 = .ok (.invokestatic 44, 3) := dk_184 0 44 (dk_at dksX6_live_0 5 rfl rfl)
theorem dX6_live_8 : decode cX6_live 8 = .ok (.ifCond .ne 7, 3) := dk_154 0 7 (dk_at dksX6_live_0 8 rfl rfl)
theorem dX6_live_11 : decode cX6_live 11 = .ok (.iconst 1, 1) := dk_4 (dk_at dksX6_live_0 11 rfl rfl)
theorem dX6_live_12 : decode cX6_live 12 = .ok (.goto 4, 3) := dk_167 0 4 (dk_at dksX6_live_0 12 rfl rfl)
theorem dX6_live_15 : decode cX6_live 15 = .ok (.iconst 0, 1) := dk_3 (dk_at dksX6_live_0 15 rfl rfl)
theorem dX6_live_16 : decode cX6_live 16 = .ok (.putfield 41, 3) := dk_181 0 41 (dk_at dksX6_live_0 16 rfl rfl)
theorem dX6_live_19 : decode cX6_live 19 = .ok (.aload_n 0, 1) := dk_42 (dk_at dksX6_live_0 19 rfl rfl)
theorem dX6_live_20 : decode cX6_live 20 = .ok (.getfield 41, 3) := dk_180 0 41 (dk_at dksX6_live_0 20 rfl rfl)
theorem dX6_live_23 : decode cX6_live 23 = .ok (.ifCond .le 5, 3) := dk_158 0 5 (dk_at dksX6_live_1 0 rfl rfl)
theorem dX6_live_26 : decode cX6_live 26 = .ok (.iconst 0, 1) := dk_3 (dk_at dksX6_live_1 3 rfl rfl)
theorem dX6_live_27 : decode cX6_live 27 = .ok (.ireturn, 1) := dk_172 (dk_at dksX6_live_1 4 rfl rfl)
theorem dX6_live_28 : decode cX6_live 28 = .ok (.aload_n 0, 1) := dk_42 (dk_at dksX6_live_1 5 rfl rfl)
theorem dX6_live_29 : decode cX6_live 29 = .ok (.getfield 7, 3) := dk_180 0 7 (dk_at dksX6_live_1 6 rfl rfl)
theorem dX6_live_32 : decode cX6_live 32 = .ok (.iconst 4, 1) := dk_7 (dk_at dksX6_live_1 9 rfl rfl)
theorem dX6_live_33 : decode cX6_live 33 = .ok (.iaload, 1) := dk_46 (dk_at dksX6_live_1 10 rfl rfl)
theorem dX6_live_34 : decode cX6_live 34 = .ok (.istore_n 2, 1) := dk_61 (dk_at dksX6_live_1 11 rfl rfl)
theorem dX6_live_35 : decode cX6_live 35 = .ok (.iconst 0, 1) := dk_3 (dk_at dksX6_live_1 12 rfl rfl)
theorem dX6_live_36 : decode cX6_live 36 = .ok (.istore_n 3, 1) := dk_62 (dk_at dksX6_live_1 13 rfl rfl)
theorem dX6_live_37 : decode cX6_live 37 = .ok (.iload_n 3, 1) := dk_29 (dk_at dksX6_live_1 14 rfl rfl)
theorem dX6_live_38 : decode cX6_live 38 = .ok (.iload_n 1, 1) := dk_27 (dk_at dksX6_live_1 15 rfl rfl)
theorem dX6_live_39 : decode cX6_live 39 = .ok (.if_icmp .ge 128, 3) := dk_162 0 128 (dk_at dksX6_live_1 16 rfl rfl)
theorem dX6_live_42 : decode cX6_live 42 = .ok (.iconst 0, 1) := dk_3 (dk_at dksX6_live_1 19 rfl rfl)
theorem dX6_live_43 : decode cX6_live 43 = .ok (.istore 4, 2) := dk_54 4 (dk_at dksX6_live_1 20 rfl rfl)
theorem dX6_live_45 : decode cX6_live 45 = .ok (.iload 4, 2) := dk_21 4 (dk_at dksX6_live_1 22 rfl rfl)
theorem dX6_live_47 : decode cX6_live 47 = .ok (.aload_n 0, 1) := dk_42 (dk_at dksX6_live_2 0 rfl rfl)
theorem dX6_live_48 : decode cX6_live 48 = .ok (.getfield 7, 3) := dk_180 0 7 (dk_at dksX6_live_2 1 rfl rfl)
theorem dX6_live_51 : decode cX6_live 51 = .ok (.iconst 2, 1) := dk_5 (dk_at dksX6_live_2 4 rfl rfl)
theorem dX6_live_52 : decode cX6_live 52 = .ok (.iaload, 1) := dk_46 (dk_at dksX6_live_2 5 rfl rfl)
theorem dX6_live_53 : decode cX6_live 53 = .ok (.if_icmp .ge 97, 3) := dk_162 0 97 (dk_at dksX6_live_2 6 rfl rfl)
theorem dX6_live_56 : decode cX6_live 56 = .ok (.aload_n 0, 1) := dk_42 (dk_at dksX6_live_2 9 rfl rfl)
theorem dX6_live_57 : decode cX6_live 57 = .ok (.getfield 7, 3) := dk_180 0 7 (dk_at dksX6_live_2 10 rfl rfl)
theorem dX6_live_60 : decode cX6_live 60 = .ok (.iconst 3, 1) := dk_6 (dk_at dksX6_live_2 13 rfl rfl)
theorem dX6_live_61 : decode cX6_live 61 = .ok (.iaload, 1) := dk_46 (dk_at dksX6_live_2 14 rfl rfl)
theorem dX6_live_62 : decode cX6_live 62 = .ok (.ifCond .le 88, 3) := dk_158 0 88 (dk_at dksX6_live_2 15 rfl rfl)
theorem dX6_live_65 : decode cX6_live 65 = .ok (.aload_n 0, 1) := dk_42 (dk_at dksX6_live_2 18 rfl rfl)
theorem dX6_live_66 : decode cX6_live 66 = .ok (.bipush 100, 2) := dk_16 100 (dk_at dksX6_live_2 19 rfl rfl)
theorem dX6_live_68 : decode cX6_live 68 = .ok (.invokevirtual 277, 3) := dk_182 1 21 (dk_at dksX6_live_2 21 rfl rfl)
theorem dX6_live_71 : decode cX6_live 71 = .ok (.aload_n 0, 1) := dk_42 (dk_at dksX6_live_3 0 rfl rfl)
theorem dX6_live_72 : decode cX6_live 72 = .ok (.iload 4, 2) := dk_21 4 (dk_at dksX6_live_3 1 rfl rfl)
theorem dX6_live_74 : decode cX6_live 74 = .ok (.iconst 3, 1) := dk_6 (dk_at dksX6_live_3 3 rfl rfl)
theorem dX6_live_75 : decode cX6_live 75 = .ok (.invokevirtual 203, 3) := dk_182 0 203 (dk_at dksX6_live_3 4 rfl rfl)
theorem dX6_live_78 : decode cX6_live 78 = .ok (.if_icmp .lt 6, 3) := dk_161 0 6 (dk_at dksX6_live_3 7 rfl rfl)
theorem dX6_live_81 : decode cX6_live 81 = .ok (.goto 63, 3) := dk_167 0 63 (dk_at dksX6_live_3 10 rfl rfl)
theorem dX6_live_84 : decode cX6_live 84 = .ok (.aload_n 0, 1) := dk_42 (dk_at dksX6_live_3 13 rfl rfl)
theorem dX6_live_85 : decode cX6_live 85 = .ok (.aload_n 0, 1) := dk_42 (dk_at dksX6_live_3 14 rfl rfl)
theorem dX6_live_86 : decode cX6_live 86 = .ok (.getfield 7, 3) := dk_180 0 7 (dk_at dksX6_live_3 15 rfl rfl)
theorem dX6_live_89 : decode cX6_live 89 = .ok (.iconst 3, 1) := dk_6 (dk_at dksX6_live_3 18 rfl rfl)
theorem dX6_live_90 : decode cX6_live 90 = .ok (.iaload, 1) := dk_46 (dk_at dksX6_live_3 19 rfl rfl)
theorem dX6_live_91 : decode cX6_live 91 = .ok (.invokevirtual 277, 3) := dk_182 1 21 (dk_at dksX6_live_3 20 rfl rfl)
theorem dX6_live_94 : decode cX6_live 94 = .ok (.iconst 1, 1) := dk_4 (dk_at dksX6_live_3 23 rfl rfl)
theorem dX6_live_95 : decode cX6_live 95 = .ok (.iadd, 1) := dk_96 (dk_at dksX6_live_4 0 rfl rfl)
theorem dX6_live_96 : decode cX6_live 96 = .ok (.istore 5, 2) := dk_54 5 (dk_at dksX6_live_4 1 rfl rfl)
theorem dX6_live_98 : decode cX6_live 98 = .ok (.aload_n 0, 1) := dk_42 (dk_at dksX6_live_4 3 rfl rfl)
theorem dX6_live_99 : decode cX6_live 99 = .ok (.iconst 4, 1) := dk_7 (dk_at dksX6_live_4 4 rfl rfl)
theorem dX6_live_100 : decode cX6_live 100 = .ok (.invokevirtual 277, 3) := dk_182 1 21 (dk_at dksX6_live_4 5 rfl rfl)
theorem dX6_live_103 : decode cX6_live 103 = .ok (.ifCond .ne 7, 3) := dk_154 0 7 (dk_at dksX6_live_4 8 rfl rfl)
theorem dX6_live_106 : decode cX6_live 106 = .ok (.iconst 1, 1) := dk_4 (dk_at dksX6_live_4 11 rfl rfl)
theorem dX6_live_107 : decode cX6_live 107 = .ok (.goto 4, 3) := dk_167 0 4 (dk_at dksX6_live_4 12 rfl rfl)
theorem dX6_live_110 : decode cX6_live 110 = .ok (.iconst 0, 1) := dk_3 (dk_at dksX6_live_4 15 rfl rfl)
theorem dX6_live_111 : decode cX6_live 111 = .ok (.istore 6, 2) := dk_54 6 (dk_at dksX6_live_4 16 rfl rfl)
theorem dX6_live_113 : decode cX6_live 113 = .ok (.aload_n 0, 1) := dk_42 (dk_at dksX6_live_4 18 rfl rfl)
theorem dX6_live_114 : decode cX6_live 114 = .ok (.iload 4, 2) := dk_21 4 (dk_at dksX6_live_4 19 rfl rfl)
theorem dX6_live_116 : decode cX6_live 116 = .ok (.iload 5, 2) := dk_21 5 (dk_at dksX6_live_4 21 rfl rfl)
theorem dX6_live_118 : decode cX6_live 118 = .ok (.iload 6, 2) := dk_21 6 (dk_at dksX6_live_5 0 rfl rfl)
theorem dX6_live_120 : decode cX6_live 120 = .ok (.invokevirtual 234, 3) := dk_182 0 234 (dk_at dksX6_live_5 2 rfl rfl)
theorem dX6_live_123 : decode cX6_live 123 = .ok (.ifCond .eq 21, 3) := dk_153 0 21 (dk_at dksX6_live_5 5 rfl rfl)
theorem dX6_live_126 : decode cX6_live 126 = .ok (.aload_n 0, 1) := dk_42 (dk_at dksX6_live_5 8 rfl rfl)
theorem dX6_live_127 : decode cX6_live 127 = .ok (.iload 4, 2) := dk_21 4 (dk_at dksX6_live_5 9 rfl rfl)
theorem dX6_live_129 : decode cX6_live 129 = .ok (.aload_n 0, 1) := dk_42 (dk_at dksX6_live_5 11 rfl rfl)
theorem dX6_live_130 : decode cX6_live 130 = .ok (.iload 4, 2) := dk_21 4 (dk_at dksX6_live_5 12 rfl rfl)
theorem dX6_live_132 : decode cX6_live 132 = .ok (.iconst 2, 1) := dk_5 (dk_at dksX6_live_5 14 rfl rfl)
theorem dX6_live_133 : decode cX6_live 133 = .ok (.invokevirtual 203, 3) := dk_182 0 203 (dk_at dksX6_live_5 15 rfl rfl)
theorem dX6_live_136 : decode cX6_live 136 = .ok (.iload 5, 2) := dk_21 5 (dk_at dksX6_live_5 18 rfl rfl)
theorem dX6_live_138 : decode cX6_live 138 = .ok (.iload 6, 2) := dk_21 6 (dk_at dksX6_live_5 20 rfl rfl)
theorem dX6_live_140 : decode cX6_live 140 = .ok (.invokevirtual 238, 3) := dk_182 0 238 (dk_at dksX6_live_6 0 rfl rfl)
theorem dX6_live_143 : decode cX6_live 143 = .ok (.pop, 1) := dk_87 (dk_at dksX6_live_6 3 rfl rfl)
theorem dX6_live_144 : decode cX6_live 144 = .ok (.iinc 4 1, 3) := dk_132 4 1 (dk_at dksX6_live_6 4 rfl rfl)
theorem dX6_live_147 : decode cX6_live 147 = .ok (.goto (-102), 3) := dk_167 255 154 (dk_at dksX6_live_6 7 rfl rfl)
theorem dX6_live_150 : decode cX6_live 150 = .ok (.aload_n 0, 1) := dk_42 (dk_at dksX6_live_6 10 rfl rfl)
theorem dX6_live_151 : decode cX6_live 151 = .ok (.getfield 7, 3) := dk_180 0 7 (dk_at dksX6_live_6 11 rfl rfl)
theorem dX6_live_154 : decode cX6_live 154 = .ok (.bipush 8, 2) := dk_16 8 (dk_at dksX6_live_6 14 rfl rfl)
theorem dX6_live_156 : decode cX6_live 156 = .ok (.dup2, 1) := dk_92 (dk_at dksX6_live_6 16 rfl rfl)
theorem dX6_live_157 : decode cX6_live 157 = .ok (.iaload, 1) := dk_46 (dk_at dksX6_live_6 17 rfl rfl)
theorem dX6_live_158 : decode cX6_live 158 = .ok (.iconst 1, 1) := dk_4 (dk_at dksX6_live_6 18 rfl rfl)
theorem dX6_live_159 : decode cX6_live 159 = .ok (.iadd, 1) := dk_96 (dk_at dksX6_live_6 19 rfl rfl)
theorem dX6_live_160 : decode cX6_live 160 = .ok (.iastore, 1) := dk_79 (dk_at dksX6_live_6 20 rfl rfl)
theorem dX6_live_161 : decode cX6_live 161 = .ok (.iinc 3 1, 3) := dk_132 3 1 (dk_at dksX6_live_6 21 rfl rfl)
theorem dX6_live_164 : decode cX6_live 164 = .ok (.goto (-127), 3) := dk_167 255 129 (dk_at dksX6_live_7 0 rfl rfl)
theorem dX6_live_167 : decode cX6_live 167 = .ok (.aload_n 0, 1) := dk_42 (dk_at dksX6_live_7 3 rfl rfl)
theorem dX6_live_168 : decode cX6_live 168 = .ok (.getfield 7, 3) := dk_180 0 7 (dk_at dksX6_live_7 4 rfl rfl)
theorem dX6_live_171 : decode cX6_live 171 = .ok (.iconst 4, 1) := dk_7 (dk_at dksX6_live_7 7 rfl rfl)
theorem dX6_live_172 : decode cX6_live 172 = .ok (.iaload, 1) := dk_46 (dk_at dksX6_live_7 8 rfl rfl)
theorem dX6_live_173 : decode cX6_live 173 = .ok (.iload_n 2, 1) := dk_28 (dk_at dksX6_live_7 9 rfl rfl)
theorem dX6_live_174 : decode cX6_live 174 = .ok (.isub, 1) := dk_100 (dk_at dksX6_live_7 10 rfl rfl)
theorem dX6_live_175 : decode cX6_live 175 = .ok (.ireturn, 1) := dk_172 (dk_at dksX6_live_7 11 rfl rfl)
abbrev cX6_draw : ByteArray := prog_23_method_67_code
def yX6_draw : MethodName := ⟨RX6, "draw", "(I)I"⟩
def dkwX6_draw_1 : List UInt8 := [180, 0, 7, 16, 9, 46, 16, 16, 124, 17, 127, 255, 126, 27, 112, 172]
abbrev dktX6_draw_1 : List UInt8 := dkwX6_draw_1 ++ []
def dkwX6_draw_0 : List UInt8 := [42, 180, 0, 7, 16, 9, 19, 1, 20, 42, 180, 0, 7, 16, 9, 46, 104, 17, 48, 57, 96, 79, 42]
abbrev dktX6_draw_0 : List UInt8 := dkwX6_draw_0 ++ dktX6_draw_1
theorem dksX6_draw_0 : cX6_draw.data.toList.drop 0 = dktX6_draw_0 := by decide +kernel
theorem dksX6_draw_1 : cX6_draw.data.toList.drop 23 = dktX6_draw_1 := dk_seg dksX6_draw_0 23 rfl rfl
theorem dX6_draw_0 : decode cX6_draw 0 = .ok (.aload_n 0, 1) := dk_42 (dk_at dksX6_draw_0 0 rfl rfl)
theorem dX6_draw_1 : decode cX6_draw 1 = .ok (.getfield 7, 3) := dk_180 0 7 (dk_at dksX6_draw_0 1 rfl rfl)
theorem dX6_draw_4 : decode cX6_draw 4 = .ok (.bipush 9, 2) := dk_16 9 (dk_at dksX6_draw_0 4 rfl rfl)
theorem dX6_draw_6 : decode cX6_draw 6 = .ok (.ldc_w 276, 3) := dk_19 1 20 (dk_at dksX6_draw_0 6 rfl rfl)
theorem dX6_draw_9 : decode cX6_draw 9 = .ok (.aload_n 0, 1) := dk_42 (dk_at dksX6_draw_0 9 rfl rfl)
theorem dX6_draw_10 : decode cX6_draw 10 = .ok (.getfield 7, 3) := dk_180 0 7 (dk_at dksX6_draw_0 10 rfl rfl)
theorem dX6_draw_13 : decode cX6_draw 13 = .ok (.bipush 9, 2) := dk_16 9 (dk_at dksX6_draw_0 13 rfl rfl)
theorem dX6_draw_15 : decode cX6_draw 15 = .ok (.iaload, 1) := dk_46 (dk_at dksX6_draw_0 15 rfl rfl)
theorem dX6_draw_16 : decode cX6_draw 16 = .ok (.imul, 1) := dk_104 (dk_at dksX6_draw_0 16 rfl rfl)
theorem dX6_draw_17 : decode cX6_draw 17 = .ok (.sipush 12345, 3) := dk_17 48 57 (dk_at dksX6_draw_0 17 rfl rfl)
theorem dX6_draw_20 : decode cX6_draw 20 = .ok (.iadd, 1) := dk_96 (dk_at dksX6_draw_0 20 rfl rfl)
theorem dX6_draw_21 : decode cX6_draw 21 = .ok (.iastore, 1) := dk_79 (dk_at dksX6_draw_0 21 rfl rfl)
theorem dX6_draw_22 : decode cX6_draw 22 = .ok (.aload_n 0, 1) := dk_42 (dk_at dksX6_draw_0 22 rfl rfl)
theorem dX6_draw_23 : decode cX6_draw 23 = .ok (.getfield 7, 3) := dk_180 0 7 (dk_at dksX6_draw_1 0 rfl rfl)
theorem dX6_draw_26 : decode cX6_draw 26 = .ok (.bipush 9, 2) := dk_16 9 (dk_at dksX6_draw_1 3 rfl rfl)
theorem dX6_draw_28 : decode cX6_draw 28 = .ok (.iaload, 1) := dk_46 (dk_at dksX6_draw_1 5 rfl rfl)
theorem dX6_draw_29 : decode cX6_draw 29 = .ok (.bipush 16, 2) := dk_16 16 (dk_at dksX6_draw_1 6 rfl rfl)
theorem dX6_draw_31 : decode cX6_draw 31 = .ok (.iushr, 1) := dk_124 (dk_at dksX6_draw_1 8 rfl rfl)
theorem dX6_draw_32 : decode cX6_draw 32 = .ok (.sipush 32767, 3) := dk_17 127 255 (dk_at dksX6_draw_1 9 rfl rfl)
theorem dX6_draw_35 : decode cX6_draw 35 = .ok (.iand, 1) := dk_126 (dk_at dksX6_draw_1 12 rfl rfl)
theorem dX6_draw_36 : decode cX6_draw 36 = .ok (.iload_n 1, 1) := dk_27 (dk_at dksX6_draw_1 13 rfl rfl)
theorem dX6_draw_37 : decode cX6_draw 37 = .ok (.irem, 1) := dk_112 (dk_at dksX6_draw_1 14 rfl rfl)
theorem dX6_draw_38 : decode cX6_draw 38 = .ok (.ireturn, 1) := dk_172 (dk_at dksX6_draw_1 15 rfl rfl)
abbrev cX6_seed : ByteArray := prog_23_method_69_code
def yX6_seed : MethodName := ⟨RX6, "seed", "(I)I"⟩
def dkwX6_seed_0 : List UInt8 := [42, 3, 181, 0, 41, 42, 180, 0, 7, 16, 9, 46, 61, 42, 180, 0, 7, 16, 9, 27, 79, 28, 172]
abbrev dktX6_seed_0 : List UInt8 := dkwX6_seed_0 ++ []
theorem dksX6_seed_0 : cX6_seed.data.toList.drop 0 = dktX6_seed_0 := by decide +kernel
theorem dX6_seed_0 : decode cX6_seed 0 = .ok (.aload_n 0, 1) := dk_42 (dk_at dksX6_seed_0 0 rfl rfl)
theorem dX6_seed_1 : decode cX6_seed 1 = .ok (.iconst 0, 1) := dk_3 (dk_at dksX6_seed_0 1 rfl rfl)
theorem dX6_seed_2 : decode cX6_seed 2 = .ok (.putfield 41, 3) := dk_181 0 41 (dk_at dksX6_seed_0 2 rfl rfl)
theorem dX6_seed_5 : decode cX6_seed 5 = .ok (.aload_n 0, 1) := dk_42 (dk_at dksX6_seed_0 5 rfl rfl)
theorem dX6_seed_6 : decode cX6_seed 6 = .ok (.getfield 7, 3) := dk_180 0 7 (dk_at dksX6_seed_0 6 rfl rfl)
theorem dX6_seed_9 : decode cX6_seed 9 = .ok (.bipush 9, 2) := dk_16 9 (dk_at dksX6_seed_0 9 rfl rfl)
theorem dX6_seed_11 : decode cX6_seed 11 = .ok (.iaload, 1) := dk_46 (dk_at dksX6_seed_0 11 rfl rfl)
theorem dX6_seed_12 : decode cX6_seed 12 = .ok (.istore_n 2, 1) := dk_61 (dk_at dksX6_seed_0 12 rfl rfl)
theorem dX6_seed_13 : decode cX6_seed 13 = .ok (.aload_n 0, 1) := dk_42 (dk_at dksX6_seed_0 13 rfl rfl)
theorem dX6_seed_14 : decode cX6_seed 14 = .ok (.getfield 7, 3) := dk_180 0 7 (dk_at dksX6_seed_0 14 rfl rfl)
theorem dX6_seed_17 : decode cX6_seed 17 = .ok (.bipush 9, 2) := dk_16 9 (dk_at dksX6_seed_0 17 rfl rfl)
theorem dX6_seed_19 : decode cX6_seed 19 = .ok (.iload_n 1, 1) := dk_27 (dk_at dksX6_seed_0 19 rfl rfl)
theorem dX6_seed_20 : decode cX6_seed 20 = .ok (.iastore, 1) := dk_79 (dk_at dksX6_seed_0 20 rfl rfl)
theorem dX6_seed_21 : decode cX6_seed 21 = .ok (.iload_n 2, 1) := dk_28 (dk_at dksX6_seed_0 21 rfl rfl)
theorem dX6_seed_22 : decode cX6_seed 22 = .ok (.ireturn, 1) := dk_172 (dk_at dksX6_seed_0 22 rfl rfl)
abbrev cX6_image : ByteArray := prog_23_method_70_code
def yX6_image : MethodName := ⟨RX6, "image", "()V"⟩
def dkwX6_image_1 : List UInt8 := [46, 79, 132, 1, 1, 167, 255, 234, 42, 4, 181, 1, 24, 177]
abbrev dktX6_image_1 : List UInt8 := dkwX6_image_1 ++ []
def dkwX6_image_0 : List UInt8 := [42, 3, 181, 0, 41, 3, 60, 27, 17, 3, 174, 162, 0, 21, 42, 180, 0, 13, 27, 42, 180, 0, 7, 27]
abbrev dktX6_image_0 : List UInt8 := dkwX6_image_0 ++ dktX6_image_1
theorem dksX6_image_0 : cX6_image.data.toList.drop 0 = dktX6_image_0 := by decide +kernel
theorem dksX6_image_1 : cX6_image.data.toList.drop 24 = dktX6_image_1 := dk_seg dksX6_image_0 24 rfl rfl
theorem dX6_image_0 : decode cX6_image 0 = .ok (.aload_n 0, 1) := dk_42 (dk_at dksX6_image_0 0 rfl rfl)
theorem dX6_image_1 : decode cX6_image 1 = .ok (.iconst 0, 1) := dk_3 (dk_at dksX6_image_0 1 rfl rfl)
theorem dX6_image_2 : decode cX6_image 2 = .ok (.putfield 41, 3) := dk_181 0 41 (dk_at dksX6_image_0 2 rfl rfl)
theorem dX6_image_5 : decode cX6_image 5 = .ok (.iconst 0, 1) := dk_3 (dk_at dksX6_image_0 5 rfl rfl)
theorem dX6_image_6 : decode cX6_image 6 = .ok (.istore_n 1, 1) := dk_60 (dk_at dksX6_image_0 6 rfl rfl)
theorem dX6_image_7 : decode cX6_image 7 = .ok (.iload_n 1, 1) := dk_27 (dk_at dksX6_image_0 7 rfl rfl)
theorem dX6_image_8 : decode cX6_image 8 = .ok (.sipush 942, 3) := dk_17 3 174 (dk_at dksX6_image_0 8 rfl rfl)
theorem dX6_image_11 : decode cX6_image 11 = .ok (.if_icmp .ge 21, 3) := dk_162 0 21 (dk_at dksX6_image_0 11 rfl rfl)
theorem dX6_image_14 : decode cX6_image 14 = .ok (.aload_n 0, 1) := dk_42 (dk_at dksX6_image_0 14 rfl rfl)
theorem dX6_image_15 : decode cX6_image 15 = .ok (.getfield 13, 3) := dk_180 0 13 (dk_at dksX6_image_0 15 rfl rfl)
theorem dX6_image_18 : decode cX6_image 18 = .ok (.iload_n 1, 1) := dk_27 (dk_at dksX6_image_0 18 rfl rfl)
theorem dX6_image_19 : decode cX6_image 19 = .ok (.aload_n 0, 1) := dk_42 (dk_at dksX6_image_0 19 rfl rfl)
theorem dX6_image_20 : decode cX6_image 20 = .ok (.getfield 7, 3) := dk_180 0 7 (dk_at dksX6_image_0 20 rfl rfl)
theorem dX6_image_23 : decode cX6_image 23 = .ok (.iload_n 1, 1) := dk_27 (dk_at dksX6_image_0 23 rfl rfl)
theorem dX6_image_24 : decode cX6_image 24 = .ok (.iaload, 1) := dk_46 (dk_at dksX6_image_1 0 rfl rfl)
theorem dX6_image_25 : decode cX6_image 25 = .ok (.iastore, 1) := dk_79 (dk_at dksX6_image_1 1 rfl rfl)
theorem dX6_image_26 : decode cX6_image 26 = .ok (.iinc 1 1, 3) := dk_132 1 1 (dk_at dksX6_image_1 2 rfl rfl)
theorem dX6_image_29 : decode cX6_image 29 = .ok (.goto (-22), 3) := dk_167 255 234 (dk_at dksX6_image_1 5 rfl rfl)
theorem dX6_image_32 : decode cX6_image 32 = .ok (.aload_n 0, 1) := dk_42 (dk_at dksX6_image_1 8 rfl rfl)
theorem dX6_image_33 : decode cX6_image 33 = .ok (.iconst 1, 1) := dk_4 (dk_at dksX6_image_1 9 rfl rfl)
theorem dX6_image_34 : decode cX6_image 34 = .ok (.putfield 280, 3) := dk_181 1 24 (dk_at dksX6_image_1 10 rfl rfl)
theorem dX6_image_37 : decode cX6_image 37 = .ok (.return_, 1) := dk_177 (dk_at dksX6_image_1 13 rfl rfl)
abbrev cX6_back : ByteArray := prog_23_method_71_code
def yX6_back : MethodName := ⟨RX6, "back", "()Z"⟩
def dkwX6_back_1 : List UInt8 := [180, 0, 7, 27, 42, 180, 0, 13, 27, 46, 79, 132, 1, 1, 167, 255, 234, 4, 172]
abbrev dktX6_back_1 : List UInt8 := dkwX6_back_1 ++ []
def dkwX6_back_0 : List UInt8 := [42, 3, 181, 0, 41, 42, 180, 1, 24, 154, 0, 5, 3, 172, 3, 60, 27, 17, 3, 174, 162, 0, 21, 42]
abbrev dktX6_back_0 : List UInt8 := dkwX6_back_0 ++ dktX6_back_1
theorem dksX6_back_0 : cX6_back.data.toList.drop 0 = dktX6_back_0 := by decide +kernel
theorem dksX6_back_1 : cX6_back.data.toList.drop 24 = dktX6_back_1 := dk_seg dksX6_back_0 24 rfl rfl
theorem dX6_back_0 : decode cX6_back 0 = .ok (.aload_n 0, 1) := dk_42 (dk_at dksX6_back_0 0 rfl rfl)
theorem dX6_back_1 : decode cX6_back 1 = .ok (.iconst 0, 1) := dk_3 (dk_at dksX6_back_0 1 rfl rfl)
theorem dX6_back_2 : decode cX6_back 2 = .ok (.putfield 41, 3) := dk_181 0 41 (dk_at dksX6_back_0 2 rfl rfl)
theorem dX6_back_5 : decode cX6_back 5 = .ok (.aload_n 0, 1) := dk_42 (dk_at dksX6_back_0 5 rfl rfl)
theorem dX6_back_6 : decode cX6_back 6 = .ok (.getfield 280, 3) := dk_180 1 24 (dk_at dksX6_back_0 6 rfl rfl)
theorem dX6_back_9 : decode cX6_back 9 = .ok (.ifCond .ne 5, 3) := dk_154 0 5 (dk_at dksX6_back_0 9 rfl rfl)
theorem dX6_back_12 : decode cX6_back 12 = .ok (.iconst 0, 1) := dk_3 (dk_at dksX6_back_0 12 rfl rfl)
theorem dX6_back_13 : decode cX6_back 13 = .ok (.ireturn, 1) := dk_172 (dk_at dksX6_back_0 13 rfl rfl)
theorem dX6_back_14 : decode cX6_back 14 = .ok (.iconst 0, 1) := dk_3 (dk_at dksX6_back_0 14 rfl rfl)
theorem dX6_back_15 : decode cX6_back 15 = .ok (.istore_n 1, 1) := dk_60 (dk_at dksX6_back_0 15 rfl rfl)
theorem dX6_back_16 : decode cX6_back 16 = .ok (.iload_n 1, 1) := dk_27 (dk_at dksX6_back_0 16 rfl rfl)
theorem dX6_back_17 : decode cX6_back 17 = .ok (.sipush 942, 3) := dk_17 3 174 (dk_at dksX6_back_0 17 rfl rfl)
theorem dX6_back_20 : decode cX6_back 20 = .ok (.if_icmp .ge 21, 3) := dk_162 0 21 (dk_at dksX6_back_0 20 rfl rfl)
theorem dX6_back_23 : decode cX6_back 23 = .ok (.aload_n 0, 1) := dk_42 (dk_at dksX6_back_0 23 rfl rfl)
theorem dX6_back_24 : decode cX6_back 24 = .ok (.getfield 7, 3) := dk_180 0 7 (dk_at dksX6_back_1 0 rfl rfl)
theorem dX6_back_27 : decode cX6_back 27 = .ok (.iload_n 1, 1) := dk_27 (dk_at dksX6_back_1 3 rfl rfl)
theorem dX6_back_28 : decode cX6_back 28 = .ok (.aload_n 0, 1) := dk_42 (dk_at dksX6_back_1 4 rfl rfl)
theorem dX6_back_29 : decode cX6_back 29 = .ok (.getfield 13, 3) := dk_180 0 13 (dk_at dksX6_back_1 5 rfl rfl)
theorem dX6_back_32 : decode cX6_back 32 = .ok (.iload_n 1, 1) := dk_27 (dk_at dksX6_back_1 8 rfl rfl)
theorem dX6_back_33 : decode cX6_back 33 = .ok (.iaload, 1) := dk_46 (dk_at dksX6_back_1 9 rfl rfl)
theorem dX6_back_34 : decode cX6_back 34 = .ok (.iastore, 1) := dk_79 (dk_at dksX6_back_1 10 rfl rfl)
theorem dX6_back_35 : decode cX6_back 35 = .ok (.iinc 1 1, 3) := dk_132 1 1 (dk_at dksX6_back_1 11 rfl rfl)
theorem dX6_back_38 : decode cX6_back 38 = .ok (.goto (-22), 3) := dk_167 255 234 (dk_at dksX6_back_1 14 rfl rfl)
theorem dX6_back_41 : decode cX6_back 41 = .ok (.iconst 1, 1) := dk_4 (dk_at dksX6_back_1 17 rfl rfl)
theorem dX6_back_42 : decode cX6_back 42 = .ok (.ireturn, 1) := dk_172 (dk_at dksX6_back_1 18 rfl rfl)
abbrev cX6_count : ByteArray := prog_23_method_72_code
def yX6_count : MethodName := ⟨RX6, "count", "(I)I"⟩
def dkwX6_count_10 : List UInt8 := [160, 0, 12, 42, 180, 0, 7, 8, 46, 167, 0, 4, 2, 172]
abbrev dktX6_count_10 : List UInt8 := dkwX6_count_10 ++ []
def dkwX6_count_9 : List UInt8 := [167, 0, 35, 27, 16, 9, 160, 0, 13, 42, 180, 0, 7, 16, 7, 46, 167, 0, 19, 27, 16, 10]
abbrev dktX6_count_9 : List UInt8 := dkwX6_count_9 ++ dktX6_count_10
def dkwX6_count_8 : List UInt8 := [180, 0, 7, 16, 8, 46, 167, 0, 51, 27, 16, 8, 160, 0, 13, 42, 180, 0, 7, 16, 6, 46]
abbrev dktX6_count_8 : List UInt8 := dkwX6_count_8 ++ dktX6_count_9
def dkwX6_count_7 : List UInt8 := [167, 0, 81, 27, 8, 160, 0, 12, 42, 180, 0, 7, 7, 46, 167, 0, 67, 27, 16, 7, 160, 0, 13, 42]
abbrev dktX6_count_7 : List UInt8 := dkwX6_count_7 ++ dktX6_count_8
def dkwX6_count_6 : List UInt8 := [160, 0, 12, 42, 180, 0, 7, 3, 46, 167, 0, 96, 27, 7, 160, 0, 13, 42, 180, 0, 7, 16, 10, 46]
abbrev dktX6_count_6 : List UInt8 := dkwX6_count_6 ++ dktX6_count_7
def dkwX6_count_5 : List UInt8 := [180, 0, 7, 5, 46, 167, 0, 124, 27, 5, 160, 0, 12, 42, 180, 0, 7, 6, 46, 167, 0, 110, 27, 6]
abbrev dktX6_count_5 : List UInt8 := dkwX6_count_5 ++ dktX6_count_6
def dkwX6_count_4 : List UInt8 := [160, 0, 5, 29, 172, 27, 154, 0, 12, 42, 180, 0, 7, 4, 46, 167, 0, 138, 27, 4, 160, 0, 12, 42]
abbrev dktX6_count_4 : List UInt8 := dkwX6_count_4 ++ dktX6_count_5
def dkwX6_count_3 : List UInt8 := [27, 16, 6, 160, 0, 8, 42, 182, 0, 253, 172, 27, 16, 11, 160, 0, 5, 28, 172, 27, 16, 12]
abbrev dktX6_count_3 : List UInt8 := dkwX6_count_3 ++ dktX6_count_4
def dkwX6_count_2 : List UInt8 := [180, 0, 7, 7, 46, 162, 0, 19, 29, 42, 21, 4, 8, 182, 0, 196, 96, 62, 132, 4, 1, 167, 255, 232]
abbrev dktX6_count_2 : List UInt8 := dkwX6_count_2 ++ dktX6_count_3
def dkwX6_count_1 : List UInt8 := [42, 180, 0, 7, 16, 12, 21, 4, 96, 46, 96, 61, 132, 4, 1, 167, 255, 229, 3, 54, 4, 21, 4, 42]
abbrev dktX6_count_1 : List UInt8 := dkwX6_count_1 ++ dktX6_count_2
def dkwX6_count_0 : List UInt8 := [42, 3, 181, 0, 41, 3, 61, 3, 62, 3, 54, 4, 21, 4, 42, 180, 0, 7, 4, 46, 162, 0, 22, 28]
abbrev dktX6_count_0 : List UInt8 := dkwX6_count_0 ++ dktX6_count_1
theorem dksX6_count_0 : cX6_count.data.toList.drop 0 = dktX6_count_0 := by decide +kernel
theorem dksX6_count_1 : cX6_count.data.toList.drop 24 = dktX6_count_1 := dk_seg dksX6_count_0 24 rfl rfl
theorem dksX6_count_2 : cX6_count.data.toList.drop 48 = dktX6_count_2 := dk_seg dksX6_count_1 24 rfl rfl
theorem dksX6_count_3 : cX6_count.data.toList.drop 72 = dktX6_count_3 := dk_seg dksX6_count_2 24 rfl rfl
theorem dksX6_count_4 : cX6_count.data.toList.drop 94 = dktX6_count_4 := dk_seg dksX6_count_3 22 rfl rfl
theorem dksX6_count_5 : cX6_count.data.toList.drop 118 = dktX6_count_5 := dk_seg dksX6_count_4 24 rfl rfl
theorem dksX6_count_6 : cX6_count.data.toList.drop 142 = dktX6_count_6 := dk_seg dksX6_count_5 24 rfl rfl
theorem dksX6_count_7 : cX6_count.data.toList.drop 166 = dktX6_count_7 := dk_seg dksX6_count_6 24 rfl rfl
theorem dksX6_count_8 : cX6_count.data.toList.drop 190 = dktX6_count_8 := dk_seg dksX6_count_7 24 rfl rfl
theorem dksX6_count_9 : cX6_count.data.toList.drop 212 = dktX6_count_9 := dk_seg dksX6_count_8 22 rfl rfl
theorem dksX6_count_10 : cX6_count.data.toList.drop 234 = dktX6_count_10 := dk_seg dksX6_count_9 22 rfl rfl
theorem dX6_count_0 : decode cX6_count 0 = .ok (.aload_n 0, 1) := dk_42 (dk_at dksX6_count_0 0 rfl rfl)
theorem dX6_count_1 : decode cX6_count 1 = .ok (.iconst 0, 1) := dk_3 (dk_at dksX6_count_0 1 rfl rfl)
theorem dX6_count_2 : decode cX6_count 2 = .ok (.putfield 41, 3) := dk_181 0 41 (dk_at dksX6_count_0 2 rfl rfl)
theorem dX6_count_5 : decode cX6_count 5 = .ok (.iconst 0, 1) := dk_3 (dk_at dksX6_count_0 5 rfl rfl)
theorem dX6_count_6 : decode cX6_count 6 = .ok (.istore_n 2, 1) := dk_61 (dk_at dksX6_count_0 6 rfl rfl)
theorem dX6_count_7 : decode cX6_count 7 = .ok (.iconst 0, 1) := dk_3 (dk_at dksX6_count_0 7 rfl rfl)
theorem dX6_count_8 : decode cX6_count 8 = .ok (.istore_n 3, 1) := dk_62 (dk_at dksX6_count_0 8 rfl rfl)
theorem dX6_count_9 : decode cX6_count 9 = .ok (.iconst 0, 1) := dk_3 (dk_at dksX6_count_0 9 rfl rfl)
theorem dX6_count_10 : decode cX6_count 10 = .ok (.istore 4, 2) := dk_54 4 (dk_at dksX6_count_0 10 rfl rfl)
theorem dX6_count_12 : decode cX6_count 12 = .ok (.iload 4, 2) := dk_21 4 (dk_at dksX6_count_0 12 rfl rfl)
theorem dX6_count_14 : decode cX6_count 14 = .ok (.aload_n 0, 1) := dk_42 (dk_at dksX6_count_0 14 rfl rfl)
theorem dX6_count_15 : decode cX6_count 15 = .ok (.getfield 7, 3) := dk_180 0 7 (dk_at dksX6_count_0 15 rfl rfl)
theorem dX6_count_18 : decode cX6_count 18 = .ok (.iconst 1, 1) := dk_4 (dk_at dksX6_count_0 18 rfl rfl)
theorem dX6_count_19 : decode cX6_count 19 = .ok (.iaload, 1) := dk_46 (dk_at dksX6_count_0 19 rfl rfl)
theorem dX6_count_20 : decode cX6_count 20 = .ok (.if_icmp .ge 22, 3) := dk_162 0 22 (dk_at dksX6_count_0 20 rfl rfl)
theorem dX6_count_23 : decode cX6_count 23 = .ok (.iload_n 2, 1) := dk_28 (dk_at dksX6_count_0 23 rfl rfl)
theorem dX6_count_24 : decode cX6_count 24 = .ok (.aload_n 0, 1) := dk_42 (dk_at dksX6_count_1 0 rfl rfl)
theorem dX6_count_25 : decode cX6_count 25 = .ok (.getfield 7, 3) := dk_180 0 7 (dk_at dksX6_count_1 1 rfl rfl)
theorem dX6_count_28 : decode cX6_count 28 = .ok (.bipush 12, 2) := dk_16 12 (dk_at dksX6_count_1 4 rfl rfl)
theorem dX6_count_30 : decode cX6_count 30 = .ok (.iload 4, 2) := dk_21 4 (dk_at dksX6_count_1 6 rfl rfl)
theorem dX6_count_32 : decode cX6_count 32 = .ok (.iadd, 1) := dk_96 (dk_at dksX6_count_1 8 rfl rfl)
theorem dX6_count_33 : decode cX6_count 33 = .ok (.iaload, 1) := dk_46 (dk_at dksX6_count_1 9 rfl rfl)
theorem dX6_count_34 : decode cX6_count 34 = .ok (.iadd, 1) := dk_96 (dk_at dksX6_count_1 10 rfl rfl)
theorem dX6_count_35 : decode cX6_count 35 = .ok (.istore_n 2, 1) := dk_61 (dk_at dksX6_count_1 11 rfl rfl)
theorem dX6_count_36 : decode cX6_count 36 = .ok (.iinc 4 1, 3) := dk_132 4 1 (dk_at dksX6_count_1 12 rfl rfl)
theorem dX6_count_39 : decode cX6_count 39 = .ok (.goto (-27), 3) := dk_167 255 229 (dk_at dksX6_count_1 15 rfl rfl)
theorem dX6_count_42 : decode cX6_count 42 = .ok (.iconst 0, 1) := dk_3 (dk_at dksX6_count_1 18 rfl rfl)
theorem dX6_count_43 : decode cX6_count 43 = .ok (.istore 4, 2) := dk_54 4 (dk_at dksX6_count_1 19 rfl rfl)
theorem dX6_count_45 : decode cX6_count 45 = .ok (.iload 4, 2) := dk_21 4 (dk_at dksX6_count_1 21 rfl rfl)
theorem dX6_count_47 : decode cX6_count 47 = .ok (.aload_n 0, 1) := dk_42 (dk_at dksX6_count_1 23 rfl rfl)
theorem dX6_count_48 : decode cX6_count 48 = .ok (.getfield 7, 3) := dk_180 0 7 (dk_at dksX6_count_2 0 rfl rfl)
theorem dX6_count_51 : decode cX6_count 51 = .ok (.iconst 4, 1) := dk_7 (dk_at dksX6_count_2 3 rfl rfl)
theorem dX6_count_52 : decode cX6_count 52 = .ok (.iaload, 1) := dk_46 (dk_at dksX6_count_2 4 rfl rfl)
theorem dX6_count_53 : decode cX6_count 53 = .ok (.if_icmp .ge 19, 3) := dk_162 0 19 (dk_at dksX6_count_2 5 rfl rfl)
theorem dX6_count_56 : decode cX6_count 56 = .ok (.iload_n 3, 1) := dk_29 (dk_at dksX6_count_2 8 rfl rfl)
theorem dX6_count_57 : decode cX6_count 57 = .ok (.aload_n 0, 1) := dk_42 (dk_at dksX6_count_2 9 rfl rfl)
theorem dX6_count_58 : decode cX6_count 58 = .ok (.iload 4, 2) := dk_21 4 (dk_at dksX6_count_2 10 rfl rfl)
theorem dX6_count_60 : decode cX6_count 60 = .ok (.iconst 5, 1) := dk_8 (dk_at dksX6_count_2 12 rfl rfl)
theorem dX6_count_61 : decode cX6_count 61 = .ok (.invokevirtual 196, 3) := dk_182 0 196 (dk_at dksX6_count_2 13 rfl rfl)
theorem dX6_count_64 : decode cX6_count 64 = .ok (.iadd, 1) := dk_96 (dk_at dksX6_count_2 16 rfl rfl)
theorem dX6_count_65 : decode cX6_count 65 = .ok (.istore_n 3, 1) := dk_62 (dk_at dksX6_count_2 17 rfl rfl)
theorem dX6_count_66 : decode cX6_count 66 = .ok (.iinc 4 1, 3) := dk_132 4 1 (dk_at dksX6_count_2 18 rfl rfl)
theorem dX6_count_69 : decode cX6_count 69 = .ok (.goto (-24), 3) := dk_167 255 232 (dk_at dksX6_count_2 21 rfl rfl)
theorem dX6_count_72 : decode cX6_count 72 = .ok (.iload_n 1, 1) := dk_27 (dk_at dksX6_count_3 0 rfl rfl)
theorem dX6_count_73 : decode cX6_count 73 = .ok (.bipush 6, 2) := dk_16 6 (dk_at dksX6_count_3 1 rfl rfl)
theorem dX6_count_75 : decode cX6_count 75 = .ok (.if_icmp .ne 8, 3) := dk_160 0 8 (dk_at dksX6_count_3 3 rfl rfl)
theorem dX6_count_78 : decode cX6_count 78 = .ok (.aload_n 0, 1) := dk_42 (dk_at dksX6_count_3 6 rfl rfl)
theorem dX6_count_79 : decode cX6_count 79 = .ok (.invokevirtual 253, 3) := dk_182 0 253 (dk_at dksX6_count_3 7 rfl rfl)
theorem dX6_count_82 : decode cX6_count 82 = .ok (.ireturn, 1) := dk_172 (dk_at dksX6_count_3 10 rfl rfl)
theorem dX6_count_83 : decode cX6_count 83 = .ok (.iload_n 1, 1) := dk_27 (dk_at dksX6_count_3 11 rfl rfl)
theorem dX6_count_84 : decode cX6_count 84 = .ok (.bipush 11, 2) := dk_16 11 (dk_at dksX6_count_3 12 rfl rfl)
theorem dX6_count_86 : decode cX6_count 86 = .ok (.if_icmp .ne 5, 3) := dk_160 0 5 (dk_at dksX6_count_3 14 rfl rfl)
theorem dX6_count_89 : decode cX6_count 89 = .ok (.iload_n 2, 1) := dk_28 (dk_at dksX6_count_3 17 rfl rfl)
theorem dX6_count_90 : decode cX6_count 90 = .ok (.ireturn, 1) := dk_172 (dk_at dksX6_count_3 18 rfl rfl)
theorem dX6_count_91 : decode cX6_count 91 = .ok (.iload_n 1, 1) := dk_27 (dk_at dksX6_count_3 19 rfl rfl)
theorem dX6_count_92 : decode cX6_count 92 = .ok (.bipush 12, 2) := dk_16 12 (dk_at dksX6_count_3 20 rfl rfl)
theorem dX6_count_94 : decode cX6_count 94 = .ok (.if_icmp .ne 5, 3) := dk_160 0 5 (dk_at dksX6_count_4 0 rfl rfl)
theorem dX6_count_97 : decode cX6_count 97 = .ok (.iload_n 3, 1) := dk_29 (dk_at dksX6_count_4 3 rfl rfl)
theorem dX6_count_98 : decode cX6_count 98 = .ok (.ireturn, 1) := dk_172 (dk_at dksX6_count_4 4 rfl rfl)
theorem dX6_count_99 : decode cX6_count 99 = .ok (.iload_n 1, 1) := dk_27 (dk_at dksX6_count_4 5 rfl rfl)
theorem dX6_count_100 : decode cX6_count 100 = .ok (.ifCond .ne 12, 3) := dk_154 0 12 (dk_at dksX6_count_4 6 rfl rfl)
theorem dX6_count_103 : decode cX6_count 103 = .ok (.aload_n 0, 1) := dk_42 (dk_at dksX6_count_4 9 rfl rfl)
theorem dX6_count_104 : decode cX6_count 104 = .ok (.getfield 7, 3) := dk_180 0 7 (dk_at dksX6_count_4 10 rfl rfl)
theorem dX6_count_107 : decode cX6_count 107 = .ok (.iconst 1, 1) := dk_4 (dk_at dksX6_count_4 13 rfl rfl)
theorem dX6_count_108 : decode cX6_count 108 = .ok (.iaload, 1) := dk_46 (dk_at dksX6_count_4 14 rfl rfl)
theorem dX6_count_109 : decode cX6_count 109 = .ok (.goto 138, 3) := dk_167 0 138 (dk_at dksX6_count_4 15 rfl rfl)
theorem dX6_count_112 : decode cX6_count 112 = .ok (.iload_n 1, 1) := dk_27 (dk_at dksX6_count_4 18 rfl rfl)
theorem dX6_count_113 : decode cX6_count 113 = .ok (.iconst 1, 1) := dk_4 (dk_at dksX6_count_4 19 rfl rfl)
theorem dX6_count_114 : decode cX6_count 114 = .ok (.if_icmp .ne 12, 3) := dk_160 0 12 (dk_at dksX6_count_4 20 rfl rfl)
theorem dX6_count_117 : decode cX6_count 117 = .ok (.aload_n 0, 1) := dk_42 (dk_at dksX6_count_4 23 rfl rfl)
theorem dX6_count_118 : decode cX6_count 118 = .ok (.getfield 7, 3) := dk_180 0 7 (dk_at dksX6_count_5 0 rfl rfl)
theorem dX6_count_121 : decode cX6_count 121 = .ok (.iconst 2, 1) := dk_5 (dk_at dksX6_count_5 3 rfl rfl)
theorem dX6_count_122 : decode cX6_count 122 = .ok (.iaload, 1) := dk_46 (dk_at dksX6_count_5 4 rfl rfl)
theorem dX6_count_123 : decode cX6_count 123 = .ok (.goto 124, 3) := dk_167 0 124 (dk_at dksX6_count_5 5 rfl rfl)
theorem dX6_count_126 : decode cX6_count 126 = .ok (.iload_n 1, 1) := dk_27 (dk_at dksX6_count_5 8 rfl rfl)
theorem dX6_count_127 : decode cX6_count 127 = .ok (.iconst 2, 1) := dk_5 (dk_at dksX6_count_5 9 rfl rfl)
theorem dX6_count_128 : decode cX6_count 128 = .ok (.if_icmp .ne 12, 3) := dk_160 0 12 (dk_at dksX6_count_5 10 rfl rfl)
theorem dX6_count_131 : decode cX6_count 131 = .ok (.aload_n 0, 1) := dk_42 (dk_at dksX6_count_5 13 rfl rfl)
theorem dX6_count_132 : decode cX6_count 132 = .ok (.getfield 7, 3) := dk_180 0 7 (dk_at dksX6_count_5 14 rfl rfl)
theorem dX6_count_135 : decode cX6_count 135 = .ok (.iconst 3, 1) := dk_6 (dk_at dksX6_count_5 17 rfl rfl)
theorem dX6_count_136 : decode cX6_count 136 = .ok (.iaload, 1) := dk_46 (dk_at dksX6_count_5 18 rfl rfl)
theorem dX6_count_137 : decode cX6_count 137 = .ok (.goto 110, 3) := dk_167 0 110 (dk_at dksX6_count_5 19 rfl rfl)
theorem dX6_count_140 : decode cX6_count 140 = .ok (.iload_n 1, 1) := dk_27 (dk_at dksX6_count_5 22 rfl rfl)
theorem dX6_count_141 : decode cX6_count 141 = .ok (.iconst 3, 1) := dk_6 (dk_at dksX6_count_5 23 rfl rfl)
theorem dX6_count_142 : decode cX6_count 142 = .ok (.if_icmp .ne 12, 3) := dk_160 0 12 (dk_at dksX6_count_6 0 rfl rfl)
theorem dX6_count_145 : decode cX6_count 145 = .ok (.aload_n 0, 1) := dk_42 (dk_at dksX6_count_6 3 rfl rfl)
theorem dX6_count_146 : decode cX6_count 146 = .ok (.getfield 7, 3) := dk_180 0 7 (dk_at dksX6_count_6 4 rfl rfl)
theorem dX6_count_149 : decode cX6_count 149 = .ok (.iconst 0, 1) := dk_3 (dk_at dksX6_count_6 7 rfl rfl)
theorem dX6_count_150 : decode cX6_count 150 = .ok (.iaload, 1) := dk_46 (dk_at dksX6_count_6 8 rfl rfl)
theorem dX6_count_151 : decode cX6_count 151 = .ok (.goto 96, 3) := dk_167 0 96 (dk_at dksX6_count_6 9 rfl rfl)
theorem dX6_count_154 : decode cX6_count 154 = .ok (.iload_n 1, 1) := dk_27 (dk_at dksX6_count_6 12 rfl rfl)
theorem dX6_count_155 : decode cX6_count 155 = .ok (.iconst 4, 1) := dk_7 (dk_at dksX6_count_6 13 rfl rfl)
theorem dX6_count_156 : decode cX6_count 156 = .ok (.if_icmp .ne 13, 3) := dk_160 0 13 (dk_at dksX6_count_6 14 rfl rfl)
theorem dX6_count_159 : decode cX6_count 159 = .ok (.aload_n 0, 1) := dk_42 (dk_at dksX6_count_6 17 rfl rfl)
theorem dX6_count_160 : decode cX6_count 160 = .ok (.getfield 7, 3) := dk_180 0 7 (dk_at dksX6_count_6 18 rfl rfl)
theorem dX6_count_163 : decode cX6_count 163 = .ok (.bipush 10, 2) := dk_16 10 (dk_at dksX6_count_6 21 rfl rfl)
theorem dX6_count_165 : decode cX6_count 165 = .ok (.iaload, 1) := dk_46 (dk_at dksX6_count_6 23 rfl rfl)
theorem dX6_count_166 : decode cX6_count 166 = .ok (.goto 81, 3) := dk_167 0 81 (dk_at dksX6_count_7 0 rfl rfl)
theorem dX6_count_169 : decode cX6_count 169 = .ok (.iload_n 1, 1) := dk_27 (dk_at dksX6_count_7 3 rfl rfl)
theorem dX6_count_170 : decode cX6_count 170 = .ok (.iconst 5, 1) := dk_8 (dk_at dksX6_count_7 4 rfl rfl)
theorem dX6_count_171 : decode cX6_count 171 = .ok (.if_icmp .ne 12, 3) := dk_160 0 12 (dk_at dksX6_count_7 5 rfl rfl)
theorem dX6_count_174 : decode cX6_count 174 = .ok (.aload_n 0, 1) := dk_42 (dk_at dksX6_count_7 8 rfl rfl)
theorem dX6_count_175 : decode cX6_count 175 = .ok (.getfield 7, 3) := dk_180 0 7 (dk_at dksX6_count_7 9 rfl rfl)
theorem dX6_count_178 : decode cX6_count 178 = .ok (.iconst 4, 1) := dk_7 (dk_at dksX6_count_7 12 rfl rfl)
theorem dX6_count_179 : decode cX6_count 179 = .ok (.iaload, 1) := dk_46 (dk_at dksX6_count_7 13 rfl rfl)
theorem dX6_count_180 : decode cX6_count 180 = .ok (.goto 67, 3) := dk_167 0 67 (dk_at dksX6_count_7 14 rfl rfl)
theorem dX6_count_183 : decode cX6_count 183 = .ok (.iload_n 1, 1) := dk_27 (dk_at dksX6_count_7 17 rfl rfl)
theorem dX6_count_184 : decode cX6_count 184 = .ok (.bipush 7, 2) := dk_16 7 (dk_at dksX6_count_7 18 rfl rfl)
theorem dX6_count_186 : decode cX6_count 186 = .ok (.if_icmp .ne 13, 3) := dk_160 0 13 (dk_at dksX6_count_7 20 rfl rfl)
theorem dX6_count_189 : decode cX6_count 189 = .ok (.aload_n 0, 1) := dk_42 (dk_at dksX6_count_7 23 rfl rfl)
theorem dX6_count_190 : decode cX6_count 190 = .ok (.getfield 7, 3) := dk_180 0 7 (dk_at dksX6_count_8 0 rfl rfl)
theorem dX6_count_193 : decode cX6_count 193 = .ok (.bipush 8, 2) := dk_16 8 (dk_at dksX6_count_8 3 rfl rfl)
theorem dX6_count_195 : decode cX6_count 195 = .ok (.iaload, 1) := dk_46 (dk_at dksX6_count_8 5 rfl rfl)
theorem dX6_count_196 : decode cX6_count 196 = .ok (.goto 51, 3) := dk_167 0 51 (dk_at dksX6_count_8 6 rfl rfl)
theorem dX6_count_199 : decode cX6_count 199 = .ok (.iload_n 1, 1) := dk_27 (dk_at dksX6_count_8 9 rfl rfl)
theorem dX6_count_200 : decode cX6_count 200 = .ok (.bipush 8, 2) := dk_16 8 (dk_at dksX6_count_8 10 rfl rfl)
theorem dX6_count_202 : decode cX6_count 202 = .ok (.if_icmp .ne 13, 3) := dk_160 0 13 (dk_at dksX6_count_8 12 rfl rfl)
theorem dX6_count_205 : decode cX6_count 205 = .ok (.aload_n 0, 1) := dk_42 (dk_at dksX6_count_8 15 rfl rfl)
theorem dX6_count_206 : decode cX6_count 206 = .ok (.getfield 7, 3) := dk_180 0 7 (dk_at dksX6_count_8 16 rfl rfl)
theorem dX6_count_209 : decode cX6_count 209 = .ok (.bipush 6, 2) := dk_16 6 (dk_at dksX6_count_8 19 rfl rfl)
theorem dX6_count_211 : decode cX6_count 211 = .ok (.iaload, 1) := dk_46 (dk_at dksX6_count_8 21 rfl rfl)
theorem dX6_count_212 : decode cX6_count 212 = .ok (.goto 35, 3) := dk_167 0 35 (dk_at dksX6_count_9 0 rfl rfl)
theorem dX6_count_215 : decode cX6_count 215 = .ok (.iload_n 1, 1) := dk_27 (dk_at dksX6_count_9 3 rfl rfl)
theorem dX6_count_216 : decode cX6_count 216 = .ok (.bipush 9, 2) := dk_16 9 (dk_at dksX6_count_9 4 rfl rfl)
theorem dX6_count_218 : decode cX6_count 218 = .ok (.if_icmp .ne 13, 3) := dk_160 0 13 (dk_at dksX6_count_9 6 rfl rfl)
theorem dX6_count_221 : decode cX6_count 221 = .ok (.aload_n 0, 1) := dk_42 (dk_at dksX6_count_9 9 rfl rfl)
theorem dX6_count_222 : decode cX6_count 222 = .ok (.getfield 7, 3) := dk_180 0 7 (dk_at dksX6_count_9 10 rfl rfl)
theorem dX6_count_225 : decode cX6_count 225 = .ok (.bipush 7, 2) := dk_16 7 (dk_at dksX6_count_9 13 rfl rfl)
theorem dX6_count_227 : decode cX6_count 227 = .ok (.iaload, 1) := dk_46 (dk_at dksX6_count_9 15 rfl rfl)
theorem dX6_count_228 : decode cX6_count 228 = .ok (.goto 19, 3) := dk_167 0 19 (dk_at dksX6_count_9 16 rfl rfl)
theorem dX6_count_231 : decode cX6_count 231 = .ok (.iload_n 1, 1) := dk_27 (dk_at dksX6_count_9 19 rfl rfl)
theorem dX6_count_232 : decode cX6_count 232 = .ok (.bipush 10, 2) := dk_16 10 (dk_at dksX6_count_9 20 rfl rfl)
theorem dX6_count_234 : decode cX6_count 234 = .ok (.if_icmp .ne 12, 3) := dk_160 0 12 (dk_at dksX6_count_10 0 rfl rfl)
theorem dX6_count_237 : decode cX6_count 237 = .ok (.aload_n 0, 1) := dk_42 (dk_at dksX6_count_10 3 rfl rfl)
theorem dX6_count_238 : decode cX6_count 238 = .ok (.getfield 7, 3) := dk_180 0 7 (dk_at dksX6_count_10 4 rfl rfl)
theorem dX6_count_241 : decode cX6_count 241 = .ok (.iconst 5, 1) := dk_8 (dk_at dksX6_count_10 7 rfl rfl)
theorem dX6_count_242 : decode cX6_count 242 = .ok (.iaload, 1) := dk_46 (dk_at dksX6_count_10 8 rfl rfl)
theorem dX6_count_243 : decode cX6_count 243 = .ok (.goto 4, 3) := dk_167 0 4 (dk_at dksX6_count_10 9 rfl rfl)
theorem dX6_count_246 : decode cX6_count 246 = .ok (.iconst (-1), 1) := dk_2 (dk_at dksX6_count_10 12 rfl rfl)
theorem dX6_count_247 : decode cX6_count 247 = .ok (.ireturn, 1) := dk_172 (dk_at dksX6_count_10 13 rfl rfl)
theorem q84 : (Jvm.Cond.initialized "StepDebtsModel") ∈ lw_all := lw_g (lw_at lw_m1 9 rfl) rfl
theorem q515 : (Jvm.Cond.selects "StepDebtsModel" ({ cls := "java/lang/Object", name := "getClass", desc := "()Ljava/lang/Class;" } : Jvm.MethodName) ({ cls := "java/lang/Object", name := "getClass", desc := "()Ljava/lang/Class;" } : Jvm.MethodName)) ∈ lw_all := lw_g (lw_at lw_m2 200 rfl) rfl
theorem q1758 : (Jvm.Cond.instantiable "StepDebtsModel" (25 : Nat)) ∈ lw_all := lw_g (lw_at lw_m8 3 rfl) rfl
theorem q1760 : (Jvm.Cond.instanceMethod ({ cls := "StepDebtsModel", name := "<init>", desc := "()V" } : Jvm.MethodName)) ∈ lw_all := lw_g (lw_at lw_m8 5 rfl) rfl
theorem q1761 : (Jvm.Cond.code ({ cls := "StepDebtsModel", name := "<init>", desc := "()V" } : Jvm.MethodName) prog_23_method_1_code (1 : Nat) (Option.none : Option Jvm.ClassFile.FieldType)) ∈ lw_all := lw_g (lw_at lw_m8 6 rfl) rfl
theorem q1762 : (Jvm.Cond.methodLink "StepDebtsModel" (1 : Nat) ({ cls := "java/lang/Object", name := "<init>", desc := "()V" } : Jvm.MethodName)) ∈ lw_all := lw_g (lw_at lw_m8 7 rfl) rfl
theorem q1763 : (Jvm.Cond.fieldLink "StepDebtsModel" (41 : Nat) "StepDebtsModel" "thrown" "I") ∈ lw_all := lw_g (lw_at lw_m8 8 rfl) rfl
theorem q1764 : (Jvm.Cond.fieldLink "StepDebtsModel" (7 : Nat) "StepDebtsModel" "m" "[I") ∈ lw_all := lw_g (lw_at lw_m8 9 rfl) rfl
theorem q1765 : (Jvm.Cond.fieldLink "StepDebtsModel" (13 : Nat) "StepDebtsModel" "kept" "[I") ∈ lw_all := lw_g (lw_at lw_m8 10 rfl) rfl
theorem q1766 : (Jvm.Cond.fieldLink "StepDebtsModel" (280 : Nat) "StepDebtsModel" "hasImage" "Z") ∈ lw_all := lw_g (lw_at lw_m8 11 rfl) rfl
theorem q1767 : (Jvm.Cond.fieldLink "StepDebtsModel" (16 : Nat) "StepDebtsModel" "before" "[I") ∈ lw_all := lw_g (lw_at lw_m8 12 rfl) rfl
theorem q1768 : (Jvm.Cond.fieldLink "StepDebtsModel" (19 : Nat) "StepDebtsModel" "tape" "[I") ∈ lw_all := lw_g (lw_at lw_m8 13 rfl) rfl
theorem q1769 : (Jvm.Cond.fieldLink "StepDebtsModel" (48 : Nat) "StepDebtsModel" "taped" "I") ∈ lw_all := lw_g (lw_at lw_m8 14 rfl) rfl
theorem q1770 : (Jvm.Cond.fieldLink "StepDebtsModel" (51 : Nat) "StepDebtsModel" "base" "I") ∈ lw_all := lw_g (lw_at lw_m8 15 rfl) rfl
theorem q1771 : (Jvm.Cond.fieldLink "StepDebtsModel" (57 : Nat) "StepDebtsModel" "end" "I") ∈ lw_all := lw_g (lw_at lw_m8 16 rfl) rfl
theorem q1772 : (Jvm.Cond.fieldLink "StepDebtsModel" (54 : Nat) "StepDebtsModel" "at" "I") ∈ lw_all := lw_g (lw_at lw_m8 17 rfl) rfl
theorem q1773 : (Jvm.Cond.fieldLink "StepDebtsModel" (22 : Nat) "StepDebtsModel" "fault" "I") ∈ lw_all := lw_g (lw_at lw_m8 18 rfl) rfl
theorem q1774 : (Jvm.Cond.fieldLink "StepDebtsModel" (122 : Nat) "StepDebtsModel" "deep" "I") ∈ lw_all := lw_g (lw_at lw_m8 19 rfl) rfl
theorem q1775 : (Jvm.Cond.fieldLink "StepDebtsModel" (26 : Nat) "StepDebtsModel" "fact" "[I") ∈ lw_all := lw_g (lw_at lw_m8 20 rfl) rfl
theorem q1776 : (Jvm.Cond.fieldLink "StepDebtsModel" (153 : Nat) "StepDebtsModel" "sort" "I") ∈ lw_all := lw_g (lw_at lw_m8 21 rfl) rfl
theorem q1777 : (Jvm.Cond.fieldLink "StepDebtsModel" (158 : Nat) "StepDebtsModel" "isNight" "Z") ∈ lw_all := lw_g (lw_at lw_m8 22 rfl) rfl
theorem q1778 : (Jvm.Cond.fieldLink "StepDebtsModel" (164 : Nat) "StepDebtsModel" "isOwn" "Z") ∈ lw_all := lw_g (lw_at lw_m8 23 rfl) rfl
theorem q1779 : (Jvm.Cond.fieldLink "StepDebtsModel" (193 : Nat) "StepDebtsModel" "says" "I") ∈ lw_all := lw_g (lw_at lw_m8 24 rfl) rfl
theorem q1780 : (Jvm.Cond.fieldLink "StepDebtsModel" (29 : Nat) "StepDebtsModel" "counted" "[I") ∈ lw_all := lw_g (lw_at lw_m8 25 rfl) rfl
theorem q1781 : (Jvm.Cond.fieldLink "StepDebtsModel" (244 : Nat) "StepDebtsModel" "six" "I") ∈ lw_all := lw_g (lw_at lw_m8 26 rfl) rfl
theorem q1782 : (Jvm.Cond.fieldLink "StepDebtsModel" (32 : Nat) "StepDebtsModel" "most" "[I") ∈ lw_all := lw_g (lw_at lw_m8 27 rfl) rfl
theorem q1783 : (Jvm.Cond.fieldLink "StepDebtsModel" (35 : Nat) "StepDebtsModel" "less" "[I") ∈ lw_all := lw_g (lw_at lw_m8 28 rfl) rfl
theorem q1784 : (Jvm.Cond.fieldLink "StepDebtsModel" (38 : Nat) "StepDebtsModel" "burnt" "[I") ∈ lw_all := lw_g (lw_at lw_m8 29 rfl) rfl
theorem q1785 : (Jvm.Cond.fieldLink "StepDebtsModel" (256 : Nat) "StepDebtsModel" "burntMany" "I") ∈ lw_all := lw_g (lw_at lw_m8 30 rfl) rfl
theorem q1786 : (Jvm.Cond.fieldLink "StepDebtsModel" (265 : Nat) "StepDebtsModel" "ways1" "I") ∈ lw_all := lw_g (lw_at lw_m8 31 rfl) rfl
theorem q1787 : (Jvm.Cond.fieldLink "StepDebtsModel" (268 : Nat) "StepDebtsModel" "others" "I") ∈ lw_all := lw_g (lw_at lw_m8 32 rfl) rfl
theorem q1788 : (Jvm.Cond.lays "StepDebtsModel" "StepDebtsModel" "thrown" "I") ∈ lw_all := lw_g (lw_at lw_m8 33 rfl) rfl
theorem q1789 : (Jvm.Cond.soleField "StepDebtsModel" "thrown") ∈ lw_all := lw_g (lw_at lw_m8 34 rfl) rfl
theorem q1790 : (Jvm.Cond.laysFinal "StepDebtsModel" "StepDebtsModel" "m" "[I") ∈ lw_all := lw_g (lw_at lw_m8 35 rfl) rfl
theorem q1791 : (Jvm.Cond.soleField "StepDebtsModel" "m") ∈ lw_all := lw_g (lw_at lw_m8 36 rfl) rfl
theorem q1792 : (Jvm.Cond.laysFinal "StepDebtsModel" "StepDebtsModel" "kept" "[I") ∈ lw_all := lw_g (lw_at lw_m8 37 rfl) rfl
theorem q1793 : (Jvm.Cond.soleField "StepDebtsModel" "kept") ∈ lw_all := lw_g (lw_at lw_m8 38 rfl) rfl
theorem q1794 : (Jvm.Cond.lays "StepDebtsModel" "StepDebtsModel" "hasImage" "Z") ∈ lw_all := lw_g (lw_at lw_m8 39 rfl) rfl
theorem q1795 : (Jvm.Cond.soleField "StepDebtsModel" "hasImage") ∈ lw_all := lw_g (lw_at lw_m8 40 rfl) rfl
theorem q1796 : (Jvm.Cond.laysFinal "StepDebtsModel" "StepDebtsModel" "before" "[I") ∈ lw_all := lw_g (lw_at lw_m8 41 rfl) rfl
theorem q1797 : (Jvm.Cond.soleField "StepDebtsModel" "before") ∈ lw_all := lw_g (lw_at lw_m8 42 rfl) rfl
theorem q1798 : (Jvm.Cond.laysFinal "StepDebtsModel" "StepDebtsModel" "tape" "[I") ∈ lw_all := lw_g (lw_at lw_m8 43 rfl) rfl
theorem q1799 : (Jvm.Cond.soleField "StepDebtsModel" "tape") ∈ lw_all := lw_g (lw_at lw_m8 44 rfl) rfl
theorem q1800 : (Jvm.Cond.lays "StepDebtsModel" "StepDebtsModel" "taped" "I") ∈ lw_all := lw_g (lw_at lw_m8 45 rfl) rfl
theorem q1801 : (Jvm.Cond.soleField "StepDebtsModel" "taped") ∈ lw_all := lw_g (lw_at lw_m8 46 rfl) rfl
theorem q1802 : (Jvm.Cond.lays "StepDebtsModel" "StepDebtsModel" "base" "I") ∈ lw_all := lw_g (lw_at lw_m8 47 rfl) rfl
theorem q1803 : (Jvm.Cond.soleField "StepDebtsModel" "base") ∈ lw_all := lw_g (lw_at lw_m8 48 rfl) rfl
theorem q1804 : (Jvm.Cond.lays "StepDebtsModel" "StepDebtsModel" "end" "I") ∈ lw_all := lw_g (lw_at lw_m8 49 rfl) rfl
theorem q1805 : (Jvm.Cond.soleField "StepDebtsModel" "end") ∈ lw_all := lw_g (lw_at lw_m8 50 rfl) rfl
theorem q1806 : (Jvm.Cond.lays "StepDebtsModel" "StepDebtsModel" "at" "I") ∈ lw_all := lw_g (lw_at lw_m8 51 rfl) rfl
theorem q1807 : (Jvm.Cond.soleField "StepDebtsModel" "at") ∈ lw_all := lw_g (lw_at lw_m8 52 rfl) rfl
theorem q1808 : (Jvm.Cond.lays "StepDebtsModel" "StepDebtsModel" "fault" "I") ∈ lw_all := lw_g (lw_at lw_m8 53 rfl) rfl
theorem q1809 : (Jvm.Cond.soleField "StepDebtsModel" "fault") ∈ lw_all := lw_g (lw_at lw_m8 54 rfl) rfl
theorem q1810 : (Jvm.Cond.lays "StepDebtsModel" "StepDebtsModel" "deep" "I") ∈ lw_all := lw_g (lw_at lw_m8 55 rfl) rfl
theorem q1811 : (Jvm.Cond.soleField "StepDebtsModel" "deep") ∈ lw_all := lw_g (lw_at lw_m8 56 rfl) rfl
theorem q1812 : (Jvm.Cond.laysFinal "StepDebtsModel" "StepDebtsModel" "fact" "[I") ∈ lw_all := lw_g (lw_at lw_m8 57 rfl) rfl
theorem q1813 : (Jvm.Cond.soleField "StepDebtsModel" "fact") ∈ lw_all := lw_g (lw_at lw_m8 58 rfl) rfl
theorem q1814 : (Jvm.Cond.lays "StepDebtsModel" "StepDebtsModel" "sort" "I") ∈ lw_all := lw_g (lw_at lw_m8 59 rfl) rfl
theorem q1815 : (Jvm.Cond.soleField "StepDebtsModel" "sort") ∈ lw_all := lw_g (lw_at lw_m8 60 rfl) rfl
theorem q1816 : (Jvm.Cond.lays "StepDebtsModel" "StepDebtsModel" "isNight" "Z") ∈ lw_all := lw_g (lw_at lw_m8 61 rfl) rfl
theorem q1817 : (Jvm.Cond.soleField "StepDebtsModel" "isNight") ∈ lw_all := lw_g (lw_at lw_m8 62 rfl) rfl
theorem q1818 : (Jvm.Cond.lays "StepDebtsModel" "StepDebtsModel" "isOwn" "Z") ∈ lw_all := lw_g (lw_at lw_m8 63 rfl) rfl
theorem q1819 : (Jvm.Cond.soleField "StepDebtsModel" "isOwn") ∈ lw_all := lw_g (lw_at lw_m8 64 rfl) rfl
theorem q1820 : (Jvm.Cond.lays "StepDebtsModel" "StepDebtsModel" "says" "I") ∈ lw_all := lw_g (lw_at lw_m8 65 rfl) rfl
theorem q1821 : (Jvm.Cond.soleField "StepDebtsModel" "says") ∈ lw_all := lw_g (lw_at lw_m8 66 rfl) rfl
theorem q1822 : (Jvm.Cond.laysFinal "StepDebtsModel" "StepDebtsModel" "counted" "[I") ∈ lw_all := lw_g (lw_at lw_m8 67 rfl) rfl
theorem q1823 : (Jvm.Cond.soleField "StepDebtsModel" "counted") ∈ lw_all := lw_g (lw_at lw_m8 68 rfl) rfl
theorem q1824 : (Jvm.Cond.lays "StepDebtsModel" "StepDebtsModel" "six" "I") ∈ lw_all := lw_g (lw_at lw_m8 69 rfl) rfl
theorem q1825 : (Jvm.Cond.soleField "StepDebtsModel" "six") ∈ lw_all := lw_g (lw_at lw_m8 70 rfl) rfl
theorem q1826 : (Jvm.Cond.laysFinal "StepDebtsModel" "StepDebtsModel" "most" "[I") ∈ lw_all := lw_g (lw_at lw_m8 71 rfl) rfl
theorem q1827 : (Jvm.Cond.soleField "StepDebtsModel" "most") ∈ lw_all := lw_g (lw_at lw_m8 72 rfl) rfl
theorem q1828 : (Jvm.Cond.laysFinal "StepDebtsModel" "StepDebtsModel" "less" "[I") ∈ lw_all := lw_g (lw_at lw_m8 73 rfl) rfl
theorem q1829 : (Jvm.Cond.soleField "StepDebtsModel" "less") ∈ lw_all := lw_g (lw_at lw_m8 74 rfl) rfl
theorem q1830 : (Jvm.Cond.laysFinal "StepDebtsModel" "StepDebtsModel" "burnt" "[I") ∈ lw_all := lw_g (lw_at lw_m8 75 rfl) rfl
theorem q1831 : (Jvm.Cond.soleField "StepDebtsModel" "burnt") ∈ lw_all := lw_g (lw_at lw_m8 76 rfl) rfl
theorem q1832 : (Jvm.Cond.lays "StepDebtsModel" "StepDebtsModel" "burntMany" "I") ∈ lw_all := lw_g (lw_at lw_m8 77 rfl) rfl
theorem q1833 : (Jvm.Cond.soleField "StepDebtsModel" "burntMany") ∈ lw_all := lw_g (lw_at lw_m8 78 rfl) rfl
theorem q1834 : (Jvm.Cond.lays "StepDebtsModel" "StepDebtsModel" "ways1" "I") ∈ lw_all := lw_g (lw_at lw_m8 79 rfl) rfl
theorem q1835 : (Jvm.Cond.soleField "StepDebtsModel" "ways1") ∈ lw_all := lw_g (lw_at lw_m8 80 rfl) rfl
theorem q1836 : (Jvm.Cond.lays "StepDebtsModel" "StepDebtsModel" "others" "I") ∈ lw_all := lw_g (lw_at lw_m8 81 rfl) rfl
theorem q1837 : (Jvm.Cond.soleField "StepDebtsModel" "others") ∈ lw_all := lw_g (lw_at lw_m8 82 rfl) rfl
theorem q1838 : (Jvm.Cond.superclass "StepDebtsModel" "java/lang/Object") ∈ lw_all := lw_g (lw_at lw_m8 83 rfl) rfl
theorem q1840 : (Jvm.Cond.instanceMethod ({ cls := "StepDebtsModel", name := "thrown", desc := "()I" } : Jvm.MethodName)) ∈ lw_all := lw_g (lw_at lw_m8 85 rfl) rfl
theorem q1841 : (Jvm.Cond.selects "StepDebtsModel" ({ cls := "StepDebtsModel", name := "thrown", desc := "()I" } : Jvm.MethodName) ({ cls := "StepDebtsModel", name := "thrown", desc := "()I" } : Jvm.MethodName)) ∈ lw_all := lw_g (lw_at lw_m8 86 rfl) rfl
theorem q1842 : (Jvm.Cond.code ({ cls := "StepDebtsModel", name := "thrown", desc := "()I" } : Jvm.MethodName) prog_23_method_2_code (1 : Nat) (Option.some Jvm.ClassFile.FieldType.int)) ∈ lw_all := lw_g (lw_at lw_m8 87 rfl) rfl
theorem q1844 : (Jvm.Cond.instanceMethod ({ cls := "StepDebtsModel", name := "feed", desc := "(IIIII)I" } : Jvm.MethodName)) ∈ lw_all := lw_g (lw_at lw_m8 89 rfl) rfl
theorem q1845 : (Jvm.Cond.selects "StepDebtsModel" ({ cls := "StepDebtsModel", name := "feed", desc := "(IIIII)I" } : Jvm.MethodName) ({ cls := "StepDebtsModel", name := "feed", desc := "(IIIII)I" } : Jvm.MethodName)) ∈ lw_all := lw_g (lw_at lw_m8 90 rfl) rfl
theorem q1846 : (Jvm.Cond.code ({ cls := "StepDebtsModel", name := "feed", desc := "(IIIII)I" } : Jvm.MethodName) prog_23_method_10_code (8 : Nat) (Option.some Jvm.ClassFile.FieldType.int)) ∈ lw_all := lw_g (lw_at lw_m8 91 rfl) rfl
theorem q1848 : (Jvm.Cond.instanceMethod ({ cls := "StepDebtsModel", name := "end", desc := "(I)Z" } : Jvm.MethodName)) ∈ lw_all := lw_g (lw_at lw_m8 93 rfl) rfl
theorem q1849 : (Jvm.Cond.selects "StepDebtsModel" ({ cls := "StepDebtsModel", name := "end", desc := "(I)Z" } : Jvm.MethodName) ({ cls := "StepDebtsModel", name := "end", desc := "(I)Z" } : Jvm.MethodName)) ∈ lw_all := lw_g (lw_at lw_m8 94 rfl) rfl
theorem q1850 : (Jvm.Cond.code ({ cls := "StepDebtsModel", name := "end", desc := "(I)Z" } : Jvm.MethodName) prog_23_method_11_code (2 : Nat) (Option.some Jvm.ClassFile.FieldType.boolean)) ∈ lw_all := lw_g (lw_at lw_m8 95 rfl) rfl
theorem q1851 : (Jvm.Cond.methodLink "StepDebtsModel" (44 : Nat) ({ cls := "StepDebtsModel", name := "isIn", desc := "(III)Z" } : Jvm.MethodName)) ∈ lw_all := lw_g (lw_at lw_m8 96 rfl) rfl
theorem q1852 : (Jvm.Cond.static ({ cls := "StepDebtsModel", name := "isIn", desc := "(III)Z" } : Jvm.MethodName)) ∈ lw_all := lw_g (lw_at lw_m8 97 rfl) rfl
theorem q1853 : (Jvm.Cond.code ({ cls := "StepDebtsModel", name := "isIn", desc := "(III)Z" } : Jvm.MethodName) prog_23_method_3_code (3 : Nat) (Option.some Jvm.ClassFile.FieldType.boolean)) ∈ lw_all := lw_g (lw_at lw_m8 98 rfl) rfl
theorem q1855 : (Jvm.Cond.instanceMethod ({ cls := "StepDebtsModel", name := "people", desc := "()I" } : Jvm.MethodName)) ∈ lw_all := lw_g (lw_at lw_m8 100 rfl) rfl
theorem q1856 : (Jvm.Cond.selects "StepDebtsModel" ({ cls := "StepDebtsModel", name := "people", desc := "()I" } : Jvm.MethodName) ({ cls := "StepDebtsModel", name := "people", desc := "()I" } : Jvm.MethodName)) ∈ lw_all := lw_g (lw_at lw_m8 101 rfl) rfl
theorem q1857 : (Jvm.Cond.code ({ cls := "StepDebtsModel", name := "people", desc := "()I" } : Jvm.MethodName) prog_23_method_23_code (2 : Nat) (Option.some Jvm.ClassFile.FieldType.int)) ∈ lw_all := lw_g (lw_at lw_m8 102 rfl) rfl
theorem q1858 : (Jvm.Cond.methodLink "StepDebtsModel" (135 : Nat) ({ cls := "StepDebtsModel", name := "begins", desc := "()V" } : Jvm.MethodName)) ∈ lw_all := lw_g (lw_at lw_m8 103 rfl) rfl
theorem q1859 : (Jvm.Cond.privateMethod ({ cls := "StepDebtsModel", name := "begins", desc := "()V" } : Jvm.MethodName)) ∈ lw_tbl := lw_at lw_m8 104 rfl
theorem q1860 : (Jvm.Cond.instanceMethod ({ cls := "StepDebtsModel", name := "begins", desc := "()V" } : Jvm.MethodName)) ∈ lw_all := lw_g (lw_at lw_m8 105 rfl) rfl
theorem q1861 : (Jvm.Cond.code ({ cls := "StepDebtsModel", name := "begins", desc := "()V" } : Jvm.MethodName) prog_23_method_21_code (1 : Nat) (Option.none : Option Jvm.ClassFile.FieldType)) ∈ lw_all := lw_g (lw_at lw_m8 106 rfl) rfl
theorem q1862 : (Jvm.Cond.methodLink "StepDebtsModel" (138 : Nat) ({ cls := "StepDebtsModel", name := "read", desc := "(Z)I" } : Jvm.MethodName)) ∈ lw_all := lw_g (lw_at lw_m8 107 rfl) rfl
theorem q1863 : (Jvm.Cond.privateMethod ({ cls := "StepDebtsModel", name := "read", desc := "(Z)I" } : Jvm.MethodName)) ∈ lw_tbl := lw_at lw_m8 108 rfl
theorem q1864 : (Jvm.Cond.instanceMethod ({ cls := "StepDebtsModel", name := "read", desc := "(Z)I" } : Jvm.MethodName)) ∈ lw_all := lw_g (lw_at lw_m8 109 rfl) rfl
theorem q1865 : (Jvm.Cond.code ({ cls := "StepDebtsModel", name := "read", desc := "(Z)I" } : Jvm.MethodName) prog_23_method_22_code (4 : Nat) (Option.some Jvm.ClassFile.FieldType.int)) ∈ lw_all := lw_g (lw_at lw_m8 110 rfl) rfl
theorem q1866 : (Jvm.Cond.methodLink "StepDebtsModel" (64 : Nat) ({ cls := "StepDebtsModel", name := "skip", desc := "()V" } : Jvm.MethodName)) ∈ lw_all := lw_g (lw_at lw_m8 111 rfl) rfl
theorem q1867 : (Jvm.Cond.privateMethod ({ cls := "StepDebtsModel", name := "skip", desc := "()V" } : Jvm.MethodName)) ∈ lw_tbl := lw_at lw_m8 112 rfl
theorem q1868 : (Jvm.Cond.instanceMethod ({ cls := "StepDebtsModel", name := "skip", desc := "()V" } : Jvm.MethodName)) ∈ lw_all := lw_g (lw_at lw_m8 113 rfl) rfl
theorem q1869 : (Jvm.Cond.code ({ cls := "StepDebtsModel", name := "skip", desc := "()V" } : Jvm.MethodName) prog_23_method_13_code (1 : Nat) (Option.none : Option Jvm.ClassFile.FieldType)) ∈ lw_all := lw_g (lw_at lw_m8 114 rfl) rfl
theorem q1870 : (Jvm.Cond.methodLink "StepDebtsModel" (60 : Nat) ({ cls := "StepDebtsModel", name := "letter", desc := "(I)I" } : Jvm.MethodName)) ∈ lw_all := lw_g (lw_at lw_m8 115 rfl) rfl
theorem q1871 : (Jvm.Cond.privateMethod ({ cls := "StepDebtsModel", name := "letter", desc := "(I)I" } : Jvm.MethodName)) ∈ lw_tbl := lw_at lw_m8 116 rfl
theorem q1872 : (Jvm.Cond.instanceMethod ({ cls := "StepDebtsModel", name := "letter", desc := "(I)I" } : Jvm.MethodName)) ∈ lw_all := lw_g (lw_at lw_m8 117 rfl) rfl
theorem q1873 : (Jvm.Cond.code ({ cls := "StepDebtsModel", name := "letter", desc := "(I)I" } : Jvm.MethodName) prog_23_method_12_code (2 : Nat) (Option.some Jvm.ClassFile.FieldType.int)) ∈ lw_all := lw_g (lw_at lw_m8 118 rfl) rfl
theorem q1874 : (Jvm.Cond.methodLink "StepDebtsModel" (77 : Nat) ({ cls := "StepDebtsModel", name := "wrong", desc := "(I)V" } : Jvm.MethodName)) ∈ lw_all := lw_g (lw_at lw_m8 119 rfl) rfl
theorem q1875 : (Jvm.Cond.privateMethod ({ cls := "StepDebtsModel", name := "wrong", desc := "(I)V" } : Jvm.MethodName)) ∈ lw_tbl := lw_at lw_m8 120 rfl
theorem q1876 : (Jvm.Cond.instanceMethod ({ cls := "StepDebtsModel", name := "wrong", desc := "(I)V" } : Jvm.MethodName)) ∈ lw_all := lw_g (lw_at lw_m8 121 rfl) rfl
theorem q1877 : (Jvm.Cond.code ({ cls := "StepDebtsModel", name := "wrong", desc := "(I)V" } : Jvm.MethodName) prog_23_method_16_code (2 : Nat) (Option.none : Option Jvm.ClassFile.FieldType)) ∈ lw_all := lw_g (lw_at lw_m8 122 rfl) rfl
theorem q1878 : (Jvm.Cond.methodLink "StepDebtsModel" (125 : Nat) ({ cls := "StepDebtsModel", name := "lawLine", desc := "()V" } : Jvm.MethodName)) ∈ lw_all := lw_g (lw_at lw_m8 123 rfl) rfl
theorem q1879 : (Jvm.Cond.privateMethod ({ cls := "StepDebtsModel", name := "lawLine", desc := "()V" } : Jvm.MethodName)) ∈ lw_tbl := lw_at lw_m8 124 rfl
theorem q1880 : (Jvm.Cond.instanceMethod ({ cls := "StepDebtsModel", name := "lawLine", desc := "()V" } : Jvm.MethodName)) ∈ lw_all := lw_g (lw_at lw_m8 125 rfl) rfl
theorem q1881 : (Jvm.Cond.code ({ cls := "StepDebtsModel", name := "lawLine", desc := "()V" } : Jvm.MethodName) prog_23_method_30_code (3 : Nat) (Option.none : Option Jvm.ClassFile.FieldType)) ∈ lw_all := lw_g (lw_at lw_m8 126 rfl) rfl
theorem q1882 : (Jvm.Cond.stringRef "StepDebtsModel" (189 : Nat) "count") ∈ lw_tbl := lw_at lw_m8 127 rfl
theorem q1883 : (Jvm.Cond.methodLink "StepDebtsModel" (81 : Nat) ({ cls := "StepDebtsModel", name := "has", desc := "(Ljava/lang/String;)Z" } : Jvm.MethodName)) ∈ lw_all := lw_g (lw_at lw_m8 128 rfl) rfl
theorem q1884 : (Jvm.Cond.privateMethod ({ cls := "StepDebtsModel", name := "has", desc := "(Ljava/lang/String;)Z" } : Jvm.MethodName)) ∈ lw_tbl := lw_at lw_m8 129 rfl
theorem q1885 : (Jvm.Cond.instanceMethod ({ cls := "StepDebtsModel", name := "has", desc := "(Ljava/lang/String;)Z" } : Jvm.MethodName)) ∈ lw_all := lw_g (lw_at lw_m8 130 rfl) rfl
theorem q1886 : (Jvm.Cond.code ({ cls := "StepDebtsModel", name := "has", desc := "(Ljava/lang/String;)Z" } : Jvm.MethodName) prog_23_method_15_code (4 : Nat) (Option.some Jvm.ClassFile.FieldType.boolean)) ∈ lw_all := lw_g (lw_at lw_m8 131 rfl) rfl
theorem q1887 : (Jvm.Cond.methodLink "StepDebtsModel" (67 : Nat) ({ cls := "java/lang/String", name := "length", desc := "()I" } : Jvm.MethodName)) ∈ lw_all := lw_g (lw_at lw_m8 132 rfl) rfl
theorem q1888 : (Jvm.Cond.methodLink "StepDebtsModel" (73 : Nat) ({ cls := "java/lang/String", name := "charAt", desc := "(I)C" } : Jvm.MethodName)) ∈ lw_all := lw_g (lw_at lw_m8 133 rfl) rfl
theorem q1899 : (Jvm.Cond.methodLink "StepDebtsModel" (85 : Nat) ({ cls := "StepDebtsModel", name := "figures", desc := "(III)I" } : Jvm.MethodName)) ∈ lw_all := lw_g (lw_at lw_m8 144 rfl) rfl
theorem q1900 : (Jvm.Cond.privateMethod ({ cls := "StepDebtsModel", name := "figures", desc := "(III)I" } : Jvm.MethodName)) ∈ lw_tbl := lw_at lw_m8 145 rfl
theorem q1901 : (Jvm.Cond.instanceMethod ({ cls := "StepDebtsModel", name := "figures", desc := "(III)I" } : Jvm.MethodName)) ∈ lw_all := lw_g (lw_at lw_m8 146 rfl) rfl
theorem q1902 : (Jvm.Cond.code ({ cls := "StepDebtsModel", name := "figures", desc := "(III)I" } : Jvm.MethodName) prog_23_method_17_code (6 : Nat) (Option.some Jvm.ClassFile.FieldType.int)) ∈ lw_all := lw_g (lw_at lw_m8 147 rfl) rfl
theorem q1903 : (Jvm.Cond.stringRef "StepDebtsModel" (191 : Nat) "if") ∈ lw_tbl := lw_at lw_m8 148 rfl
theorem q1904 : (Jvm.Cond.methodLink "StepDebtsModel" (179 : Nat) ({ cls := "StepDebtsModel", name := "some", desc := "()Z" } : Jvm.MethodName)) ∈ lw_all := lw_g (lw_at lw_m8 149 rfl) rfl
theorem q1905 : (Jvm.Cond.privateMethod ({ cls := "StepDebtsModel", name := "some", desc := "()Z" } : Jvm.MethodName)) ∈ lw_tbl := lw_at lw_m8 150 rfl
theorem q1906 : (Jvm.Cond.instanceMethod ({ cls := "StepDebtsModel", name := "some", desc := "()Z" } : Jvm.MethodName)) ∈ lw_all := lw_g (lw_at lw_m8 151 rfl) rfl
theorem q1907 : (Jvm.Cond.code ({ cls := "StepDebtsModel", name := "some", desc := "()Z" } : Jvm.MethodName) prog_23_method_29_code (3 : Nat) (Option.some Jvm.ClassFile.FieldType.boolean)) ∈ lw_all := lw_g (lw_at lw_m8 152 rfl) rfl
theorem q1908 : (Jvm.Cond.methodLink "StepDebtsModel" (184 : Nat) ({ cls := "StepDebtsModel", name := "every", desc := "()Z" } : Jvm.MethodName)) ∈ lw_all := lw_g (lw_at lw_m8 153 rfl) rfl
theorem q1909 : (Jvm.Cond.privateMethod ({ cls := "StepDebtsModel", name := "every", desc := "()Z" } : Jvm.MethodName)) ∈ lw_tbl := lw_at lw_m8 154 rfl
theorem q1910 : (Jvm.Cond.instanceMethod ({ cls := "StepDebtsModel", name := "every", desc := "()Z" } : Jvm.MethodName)) ∈ lw_all := lw_g (lw_at lw_m8 155 rfl) rfl
theorem q1911 : (Jvm.Cond.code ({ cls := "StepDebtsModel", name := "every", desc := "()Z" } : Jvm.MethodName) prog_23_method_28_code (3 : Nat) (Option.some Jvm.ClassFile.FieldType.boolean)) ∈ lw_all := lw_g (lw_at lw_m8 156 rfl) rfl
theorem q1912 : (Jvm.Cond.methodLink "StepDebtsModel" (176 : Nat) ({ cls := "StepDebtsModel", name := "atom", desc := "()Z" } : Jvm.MethodName)) ∈ lw_all := lw_g (lw_at lw_m8 157 rfl) rfl
theorem q1913 : (Jvm.Cond.privateMethod ({ cls := "StepDebtsModel", name := "atom", desc := "()Z" } : Jvm.MethodName)) ∈ lw_tbl := lw_at lw_m8 158 rfl
theorem q1914 : (Jvm.Cond.instanceMethod ({ cls := "StepDebtsModel", name := "atom", desc := "()Z" } : Jvm.MethodName)) ∈ lw_all := lw_g (lw_at lw_m8 159 rfl) rfl
theorem q1915 : (Jvm.Cond.code ({ cls := "StepDebtsModel", name := "atom", desc := "()Z" } : Jvm.MethodName) prog_23_method_27_code (4 : Nat) (Option.some Jvm.ClassFile.FieldType.boolean)) ∈ lw_all := lw_g (lw_at lw_m8 160 rfl) rfl
theorem q1916 : (Jvm.Cond.stringRef "StepDebtsModel" (170 : Nat) "not") ∈ lw_tbl := lw_at lw_m8 161 rfl
theorem q1917 : (Jvm.Cond.methodLink "StepDebtsModel" (131 : Nat) ({ cls := "StepDebtsModel", name := "isSign", desc := "(I)Z" } : Jvm.MethodName)) ∈ lw_all := lw_g (lw_at lw_m8 162 rfl) rfl
theorem q1918 : (Jvm.Cond.privateMethod ({ cls := "StepDebtsModel", name := "isSign", desc := "(I)Z" } : Jvm.MethodName)) ∈ lw_tbl := lw_at lw_m8 163 rfl
theorem q1919 : (Jvm.Cond.instanceMethod ({ cls := "StepDebtsModel", name := "isSign", desc := "(I)Z" } : Jvm.MethodName)) ∈ lw_all := lw_g (lw_at lw_m8 164 rfl) rfl
theorem q1920 : (Jvm.Cond.code ({ cls := "StepDebtsModel", name := "isSign", desc := "(I)Z" } : Jvm.MethodName) prog_23_method_14_code (2 : Nat) (Option.some Jvm.ClassFile.FieldType.boolean)) ∈ lw_all := lw_g (lw_at lw_m8 165 rfl) rfl
theorem q1921 : (Jvm.Cond.methodLink "StepDebtsModel" (172 : Nat) ({ cls := "StepDebtsModel", name := "plain", desc := "()Z" } : Jvm.MethodName)) ∈ lw_all := lw_g (lw_at lw_m8 166 rfl) rfl
theorem q1922 : (Jvm.Cond.privateMethod ({ cls := "StepDebtsModel", name := "plain", desc := "()Z" } : Jvm.MethodName)) ∈ lw_tbl := lw_at lw_m8 167 rfl
theorem q1923 : (Jvm.Cond.instanceMethod ({ cls := "StepDebtsModel", name := "plain", desc := "()Z" } : Jvm.MethodName)) ∈ lw_all := lw_g (lw_at lw_m8 168 rfl) rfl
theorem q1924 : (Jvm.Cond.code ({ cls := "StepDebtsModel", name := "plain", desc := "()Z" } : Jvm.MethodName) prog_23_method_26_code (4 : Nat) (Option.some Jvm.ClassFile.FieldType.boolean)) ∈ lw_all := lw_g (lw_at lw_m8 169 rfl) rfl
theorem q1925 : (Jvm.Cond.stringRef "StepDebtsModel" (100 : Nat) "man") ∈ lw_tbl := lw_at lw_m8 170 rfl
theorem q1926 : (Jvm.Cond.stringRef "StepDebtsModel" (106 : Nat) "child") ∈ lw_tbl := lw_at lw_m8 171 rfl
theorem q1927 : (Jvm.Cond.stringRef "StepDebtsModel" (108 : Nat) "donkey") ∈ lw_tbl := lw_at lw_m8 172 rfl
theorem q1928 : (Jvm.Cond.stringRef "StepDebtsModel" (110 : Nat) "cripple") ∈ lw_tbl := lw_at lw_m8 173 rfl
theorem q1929 : (Jvm.Cond.stringRef "StepDebtsModel" (156 : Nat) "night") ∈ lw_tbl := lw_at lw_m8 174 rfl
theorem q1930 : (Jvm.Cond.stringRef "StepDebtsModel" (162 : Nat) "own") ∈ lw_tbl := lw_at lw_m8 175 rfl
theorem q1931 : (Jvm.Cond.methodLink "StepDebtsModel" (167 : Nat) ({ cls := "StepDebtsModel", name := "sum", desc := "()I" } : Jvm.MethodName)) ∈ lw_all := lw_g (lw_at lw_m8 176 rfl) rfl
theorem q1932 : (Jvm.Cond.privateMethod ({ cls := "StepDebtsModel", name := "sum", desc := "()I" } : Jvm.MethodName)) ∈ lw_tbl := lw_at lw_m8 177 rfl
theorem q1933 : (Jvm.Cond.instanceMethod ({ cls := "StepDebtsModel", name := "sum", desc := "()I" } : Jvm.MethodName)) ∈ lw_all := lw_g (lw_at lw_m8 178 rfl) rfl
theorem q1934 : (Jvm.Cond.code ({ cls := "StepDebtsModel", name := "sum", desc := "()I" } : Jvm.MethodName) prog_23_method_25_code (2 : Nat) (Option.some Jvm.ClassFile.FieldType.int)) ∈ lw_all := lw_g (lw_at lw_m8 179 rfl) rfl
theorem q1935 : (Jvm.Cond.methodLink "StepDebtsModel" (150 : Nat) ({ cls := "StepDebtsModel", name := "part", desc := "()I" } : Jvm.MethodName)) ∈ lw_all := lw_g (lw_at lw_m8 180 rfl) rfl
theorem q1936 : (Jvm.Cond.privateMethod ({ cls := "StepDebtsModel", name := "part", desc := "()I" } : Jvm.MethodName)) ∈ lw_tbl := lw_at lw_m8 181 rfl
theorem q1937 : (Jvm.Cond.instanceMethod ({ cls := "StepDebtsModel", name := "part", desc := "()I" } : Jvm.MethodName)) ∈ lw_all := lw_g (lw_at lw_m8 182 rfl) rfl
theorem q1938 : (Jvm.Cond.code ({ cls := "StepDebtsModel", name := "part", desc := "()I" } : Jvm.MethodName) prog_23_method_24_code (2 : Nat) (Option.some Jvm.ClassFile.FieldType.int)) ∈ lw_all := lw_g (lw_at lw_m8 183 rfl) rfl
theorem q1939 : (Jvm.Cond.stringRef "StepDebtsModel" (142 : Nat) "age") ∈ lw_tbl := lw_at lw_m8 184 rfl
theorem q1940 : (Jvm.Cond.stringRef "StepDebtsModel" (144 : Nat) "wear") ∈ lw_tbl := lw_at lw_m8 185 rfl
theorem q1941 : (Jvm.Cond.stringRef "StepDebtsModel" (146 : Nat) "paces") ∈ lw_tbl := lw_at lw_m8 186 rfl
theorem q1942 : (Jvm.Cond.stringRef "StepDebtsModel" (148 : Nat) "day") ∈ lw_tbl := lw_at lw_m8 187 rfl
theorem q1943 : (Jvm.Cond.stringRef "StepDebtsModel" (182 : Nat) "and") ∈ lw_tbl := lw_at lw_m8 188 rfl
theorem q1944 : (Jvm.Cond.stringRef "StepDebtsModel" (187 : Nat) "or") ∈ lw_tbl := lw_at lw_m8 189 rfl
theorem q1945 : (Jvm.Cond.methodLink "StepDebtsModel" (128 : Nat) ({ cls := "StepDebtsModel", name := "peopleLine", desc := "()V" } : Jvm.MethodName)) ∈ lw_all := lw_g (lw_at lw_m8 190 rfl) rfl
theorem q1946 : (Jvm.Cond.privateMethod ({ cls := "StepDebtsModel", name := "peopleLine", desc := "()V" } : Jvm.MethodName)) ∈ lw_tbl := lw_at lw_m8 191 rfl
theorem q1947 : (Jvm.Cond.instanceMethod ({ cls := "StepDebtsModel", name := "peopleLine", desc := "()V" } : Jvm.MethodName)) ∈ lw_all := lw_g (lw_at lw_m8 192 rfl) rfl
theorem q1948 : (Jvm.Cond.code ({ cls := "StepDebtsModel", name := "peopleLine", desc := "()V" } : Jvm.MethodName) prog_23_method_20_code (4 : Nat) (Option.none : Option Jvm.ClassFile.FieldType)) ∈ lw_all := lw_g (lw_at lw_m8 193 rfl) rfl
theorem q1949 : (Jvm.Cond.stringRef "StepDebtsModel" (97 : Nat) "house") ∈ lw_tbl := lw_at lw_m8 194 rfl
theorem q1950 : (Jvm.Cond.constant "StepDebtsModel" (99 : Nat) (99999 : Int32)) ∈ lw_all := lw_g (lw_at lw_m8 195 rfl) rfl
theorem q1951 : (Jvm.Cond.methodLink "StepDebtsModel" (102 : Nat) ({ cls := "StepDebtsModel", name := "comes", desc := "(II)V" } : Jvm.MethodName)) ∈ lw_all := lw_g (lw_at lw_m8 196 rfl) rfl
theorem q1952 : (Jvm.Cond.privateMethod ({ cls := "StepDebtsModel", name := "comes", desc := "(II)V" } : Jvm.MethodName)) ∈ lw_tbl := lw_at lw_m8 197 rfl
theorem q1953 : (Jvm.Cond.instanceMethod ({ cls := "StepDebtsModel", name := "comes", desc := "(II)V" } : Jvm.MethodName)) ∈ lw_all := lw_g (lw_at lw_m8 198 rfl) rfl
theorem q1954 : (Jvm.Cond.code ({ cls := "StepDebtsModel", name := "comes", desc := "(II)V" } : Jvm.MethodName) prog_23_method_19_code (7 : Nat) (Option.none : Option Jvm.ClassFile.FieldType)) ∈ lw_all := lw_g (lw_at lw_m8 199 rfl) rfl
theorem q1955 : (Jvm.Cond.stringRef "StepDebtsModel" (89 : Nat) "of") ∈ lw_tbl := lw_at lw_m8 200 rfl
theorem q1956 : (Jvm.Cond.methodLink "StepDebtsModel" (91 : Nat) ({ cls := "StepDebtsModel", name := "must", desc := "(Ljava/lang/String;)V" } : Jvm.MethodName)) ∈ lw_all := lw_g (lw_at lw_m8 201 rfl) rfl
theorem q1957 : (Jvm.Cond.privateMethod ({ cls := "StepDebtsModel", name := "must", desc := "(Ljava/lang/String;)V" } : Jvm.MethodName)) ∈ lw_tbl := lw_at lw_m8 202 rfl
theorem q1958 : (Jvm.Cond.instanceMethod ({ cls := "StepDebtsModel", name := "must", desc := "(Ljava/lang/String;)V" } : Jvm.MethodName)) ∈ lw_all := lw_g (lw_at lw_m8 203 rfl) rfl
theorem q1959 : (Jvm.Cond.code ({ cls := "StepDebtsModel", name := "must", desc := "(Ljava/lang/String;)V" } : Jvm.MethodName) prog_23_method_18_code (2 : Nat) (Option.none : Option Jvm.ClassFile.FieldType)) ∈ lw_all := lw_g (lw_at lw_m8 204 rfl) rfl
theorem q1960 : (Jvm.Cond.stringRef "StepDebtsModel" (95 : Nat) "zeal") ∈ lw_tbl := lw_at lw_m8 205 rfl
theorem q1961 : (Jvm.Cond.stringRef "StepDebtsModel" (112 : Nat) "turn") ∈ lw_tbl := lw_at lw_m8 206 rfl
theorem q1962 : (Jvm.Cond.stringRef "StepDebtsModel" (114 : Nat) "limit") ∈ lw_tbl := lw_at lw_m8 207 rfl
theorem q1963 : (Jvm.Cond.stringRef "StepDebtsModel" (116 : Nat) "rest") ∈ lw_tbl := lw_at lw_m8 208 rfl
theorem q1964 : (Jvm.Cond.stringRef "StepDebtsModel" (118 : Nat) "offer") ∈ lw_tbl := lw_at lw_m8 209 rfl
theorem q1965 : (Jvm.Cond.stringRef "StepDebtsModel" (120 : Nat) "for") ∈ lw_tbl := lw_at lw_m8 210 rfl
theorem q1967 : (Jvm.Cond.instanceMethod ({ cls := "StepDebtsModel", name := "law", desc := "()I" } : Jvm.MethodName)) ∈ lw_all := lw_g (lw_at lw_m8 212 rfl) rfl
theorem q1968 : (Jvm.Cond.selects "StepDebtsModel" ({ cls := "StepDebtsModel", name := "law", desc := "()I" } : Jvm.MethodName) ({ cls := "StepDebtsModel", name := "law", desc := "()I" } : Jvm.MethodName)) ∈ lw_all := lw_g (lw_at lw_m8 213 rfl) rfl
theorem q1969 : (Jvm.Cond.code ({ cls := "StepDebtsModel", name := "law", desc := "()I" } : Jvm.MethodName) prog_23_method_31_code (3 : Nat) (Option.some Jvm.ClassFile.FieldType.int)) ∈ lw_all := lw_g (lw_at lw_m8 214 rfl) rfl
theorem q1971 : (Jvm.Cond.instanceMethod ({ cls := "StepDebtsModel", name := "fault", desc := "()I" } : Jvm.MethodName)) ∈ lw_all := lw_g (lw_at lw_m8 216 rfl) rfl
theorem q1972 : (Jvm.Cond.selects "StepDebtsModel" ({ cls := "StepDebtsModel", name := "fault", desc := "()I" } : Jvm.MethodName) ({ cls := "StepDebtsModel", name := "fault", desc := "()I" } : Jvm.MethodName)) ∈ lw_all := lw_g (lw_at lw_m8 217 rfl) rfl
theorem q1973 : (Jvm.Cond.code ({ cls := "StepDebtsModel", name := "fault", desc := "()I" } : Jvm.MethodName) prog_23_method_32_code (1 : Nat) (Option.some Jvm.ClassFile.FieldType.int)) ∈ lw_all := lw_g (lw_at lw_m8 218 rfl) rfl
theorem q1975 : (Jvm.Cond.instanceMethod ({ cls := "StepDebtsModel", name := "house", desc := "(II)I" } : Jvm.MethodName)) ∈ lw_all := lw_g (lw_at lw_m8 220 rfl) rfl
theorem q1976 : (Jvm.Cond.selects "StepDebtsModel" ({ cls := "StepDebtsModel", name := "house", desc := "(II)I" } : Jvm.MethodName) ({ cls := "StepDebtsModel", name := "house", desc := "(II)I" } : Jvm.MethodName)) ∈ lw_all := lw_g (lw_at lw_m8 221 rfl) rfl
theorem q1977 : (Jvm.Cond.code ({ cls := "StepDebtsModel", name := "house", desc := "(II)I" } : Jvm.MethodName) prog_23_method_34_code (5 : Nat) (Option.some Jvm.ClassFile.FieldType.int)) ∈ lw_all := lw_g (lw_at lw_m8 222 rfl) rfl
theorem q1978 : (Jvm.Cond.methodLink "StepDebtsModel" (200 : Nat) ({ cls := "StepDebtsModel", name := "isHouse", desc := "(I)Z" } : Jvm.MethodName)) ∈ lw_all := lw_g (lw_at lw_m8 223 rfl) rfl
theorem q1979 : (Jvm.Cond.privateMethod ({ cls := "StepDebtsModel", name := "isHouse", desc := "(I)Z" } : Jvm.MethodName)) ∈ lw_tbl := lw_at lw_m8 224 rfl
theorem q1980 : (Jvm.Cond.instanceMethod ({ cls := "StepDebtsModel", name := "isHouse", desc := "(I)Z" } : Jvm.MethodName)) ∈ lw_all := lw_g (lw_at lw_m8 225 rfl) rfl
theorem q1981 : (Jvm.Cond.code ({ cls := "StepDebtsModel", name := "isHouse", desc := "(I)Z" } : Jvm.MethodName) prog_23_method_7_code (2 : Nat) (Option.some Jvm.ClassFile.FieldType.boolean)) ∈ lw_all := lw_g (lw_at lw_m8 226 rfl) rfl
theorem q1982 : (Jvm.Cond.methodLink "StepDebtsModel" (203 : Nat) ({ cls := "StepDebtsModel", name := "ofWalker", desc := "(II)I" } : Jvm.MethodName)) ∈ lw_all := lw_g (lw_at lw_m8 227 rfl) rfl
theorem q1983 : (Jvm.Cond.privateMethod ({ cls := "StepDebtsModel", name := "ofWalker", desc := "(II)I" } : Jvm.MethodName)) ∈ lw_tbl := lw_at lw_m8 228 rfl
theorem q1984 : (Jvm.Cond.instanceMethod ({ cls := "StepDebtsModel", name := "ofWalker", desc := "(II)I" } : Jvm.MethodName)) ∈ lw_all := lw_g (lw_at lw_m8 229 rfl) rfl
theorem q1985 : (Jvm.Cond.code ({ cls := "StepDebtsModel", name := "ofWalker", desc := "(II)I" } : Jvm.MethodName) prog_23_method_4_code (3 : Nat) (Option.some Jvm.ClassFile.FieldType.int)) ∈ lw_all := lw_g (lw_at lw_m8 230 rfl) rfl
theorem q1986 : (Jvm.Cond.methodLink "StepDebtsModel" (206 : Nat) ({ cls := "StepDebtsModel", name := "beadsOf", desc := "(I)I" } : Jvm.MethodName)) ∈ lw_all := lw_g (lw_at lw_m8 231 rfl) rfl
theorem q1987 : (Jvm.Cond.privateMethod ({ cls := "StepDebtsModel", name := "beadsOf", desc := "(I)I" } : Jvm.MethodName)) ∈ lw_tbl := lw_at lw_m8 232 rfl
theorem q1988 : (Jvm.Cond.instanceMethod ({ cls := "StepDebtsModel", name := "beadsOf", desc := "(I)I" } : Jvm.MethodName)) ∈ lw_all := lw_g (lw_at lw_m8 233 rfl) rfl
theorem q1989 : (Jvm.Cond.code ({ cls := "StepDebtsModel", name := "beadsOf", desc := "(I)I" } : Jvm.MethodName) prog_23_method_33_code (4 : Nat) (Option.some Jvm.ClassFile.FieldType.int)) ∈ lw_all := lw_g (lw_at lw_m8 234 rfl) rfl
theorem q1990 : (Jvm.Cond.methodLink "StepDebtsModel" (196 : Nat) ({ cls := "StepDebtsModel", name := "ofEntry", desc := "(II)I" } : Jvm.MethodName)) ∈ lw_all := lw_g (lw_at lw_m8 235 rfl) rfl
theorem q1991 : (Jvm.Cond.privateMethod ({ cls := "StepDebtsModel", name := "ofEntry", desc := "(II)I" } : Jvm.MethodName)) ∈ lw_tbl := lw_at lw_m8 236 rfl
theorem q1992 : (Jvm.Cond.instanceMethod ({ cls := "StepDebtsModel", name := "ofEntry", desc := "(II)I" } : Jvm.MethodName)) ∈ lw_all := lw_g (lw_at lw_m8 237 rfl) rfl
theorem q1993 : (Jvm.Cond.code ({ cls := "StepDebtsModel", name := "ofEntry", desc := "(II)I" } : Jvm.MethodName) prog_23_method_6_code (3 : Nat) (Option.some Jvm.ClassFile.FieldType.int)) ∈ lw_all := lw_g (lw_at lw_m8 238 rfl) rfl
theorem q1995 : (Jvm.Cond.instanceMethod ({ cls := "StepDebtsModel", name := "walker", desc := "(II)I" } : Jvm.MethodName)) ∈ lw_all := lw_g (lw_at lw_m9 0 rfl) rfl
theorem q1996 : (Jvm.Cond.selects "StepDebtsModel" ({ cls := "StepDebtsModel", name := "walker", desc := "(II)I" } : Jvm.MethodName) ({ cls := "StepDebtsModel", name := "walker", desc := "(II)I" } : Jvm.MethodName)) ∈ lw_all := lw_g (lw_at lw_m9 1 rfl) rfl
theorem q1997 : (Jvm.Cond.code ({ cls := "StepDebtsModel", name := "walker", desc := "(II)I" } : Jvm.MethodName) prog_23_method_35_code (5 : Nat) (Option.some Jvm.ClassFile.FieldType.int)) ∈ lw_all := lw_g (lw_at lw_m9 2 rfl) rfl
theorem q1998 : (Jvm.Cond.methodLink "StepDebtsModel" (209 : Nat) ({ cls := "StepDebtsModel", name := "isWalker", desc := "(I)Z" } : Jvm.MethodName)) ∈ lw_all := lw_g (lw_at lw_m9 3 rfl) rfl
theorem q1999 : (Jvm.Cond.privateMethod ({ cls := "StepDebtsModel", name := "isWalker", desc := "(I)Z" } : Jvm.MethodName)) ∈ lw_tbl := lw_at lw_m9 4 rfl
theorem q2000 : (Jvm.Cond.instanceMethod ({ cls := "StepDebtsModel", name := "isWalker", desc := "(I)Z" } : Jvm.MethodName)) ∈ lw_all := lw_g (lw_at lw_m9 5 rfl) rfl
theorem q2001 : (Jvm.Cond.code ({ cls := "StepDebtsModel", name := "isWalker", desc := "(I)Z" } : Jvm.MethodName) prog_23_method_8_code (2 : Nat) (Option.some Jvm.ClassFile.FieldType.boolean)) ∈ lw_all := lw_g (lw_at lw_m9 6 rfl) rfl
theorem q2003 : (Jvm.Cond.instanceMethod ({ cls := "StepDebtsModel", name := "turn", desc := "(II)I" } : Jvm.MethodName)) ∈ lw_all := lw_g (lw_at lw_m9 8 rfl) rfl
theorem q2004 : (Jvm.Cond.selects "StepDebtsModel" ({ cls := "StepDebtsModel", name := "turn", desc := "(II)I" } : Jvm.MethodName) ({ cls := "StepDebtsModel", name := "turn", desc := "(II)I" } : Jvm.MethodName)) ∈ lw_all := lw_g (lw_at lw_m9 9 rfl) rfl
theorem q2005 : (Jvm.Cond.code ({ cls := "StepDebtsModel", name := "turn", desc := "(II)I" } : Jvm.MethodName) prog_23_method_37_code (3 : Nat) (Option.some Jvm.ClassFile.FieldType.int)) ∈ lw_all := lw_g (lw_at lw_m9 10 rfl) rfl
theorem q2006 : (Jvm.Cond.methodLink "StepDebtsModel" (215 : Nat) ({ cls := "StepDebtsModel", name := "isTurn", desc := "(I)Z" } : Jvm.MethodName)) ∈ lw_all := lw_g (lw_at lw_m9 11 rfl) rfl
theorem q2007 : (Jvm.Cond.privateMethod ({ cls := "StepDebtsModel", name := "isTurn", desc := "(I)Z" } : Jvm.MethodName)) ∈ lw_tbl := lw_at lw_m9 12 rfl
theorem q2008 : (Jvm.Cond.instanceMethod ({ cls := "StepDebtsModel", name := "isTurn", desc := "(I)Z" } : Jvm.MethodName)) ∈ lw_all := lw_g (lw_at lw_m9 13 rfl) rfl
theorem q2009 : (Jvm.Cond.code ({ cls := "StepDebtsModel", name := "isTurn", desc := "(I)Z" } : Jvm.MethodName) prog_23_method_9_code (2 : Nat) (Option.some Jvm.ClassFile.FieldType.boolean)) ∈ lw_all := lw_g (lw_at lw_m9 14 rfl) rfl
theorem q2010 : (Jvm.Cond.methodLink "StepDebtsModel" (218 : Nat) ({ cls := "StepDebtsModel", name := "missedOf", desc := "(I)I" } : Jvm.MethodName)) ∈ lw_all := lw_g (lw_at lw_m9 15 rfl) rfl
theorem q2011 : (Jvm.Cond.privateMethod ({ cls := "StepDebtsModel", name := "missedOf", desc := "(I)I" } : Jvm.MethodName)) ∈ lw_tbl := lw_at lw_m9 16 rfl
theorem q2012 : (Jvm.Cond.instanceMethod ({ cls := "StepDebtsModel", name := "missedOf", desc := "(I)I" } : Jvm.MethodName)) ∈ lw_all := lw_g (lw_at lw_m9 17 rfl) rfl
theorem q2013 : (Jvm.Cond.code ({ cls := "StepDebtsModel", name := "missedOf", desc := "(I)I" } : Jvm.MethodName) prog_23_method_36_code (4 : Nat) (Option.some Jvm.ClassFile.FieldType.int)) ∈ lw_all := lw_g (lw_at lw_m9 18 rfl) rfl
theorem q2014 : (Jvm.Cond.methodLink "StepDebtsModel" (212 : Nat) ({ cls := "StepDebtsModel", name := "ofTurn", desc := "(II)I" } : Jvm.MethodName)) ∈ lw_all := lw_g (lw_at lw_m9 19 rfl) rfl
theorem q2015 : (Jvm.Cond.privateMethod ({ cls := "StepDebtsModel", name := "ofTurn", desc := "(II)I" } : Jvm.MethodName)) ∈ lw_tbl := lw_at lw_m9 20 rfl
theorem q2016 : (Jvm.Cond.instanceMethod ({ cls := "StepDebtsModel", name := "ofTurn", desc := "(II)I" } : Jvm.MethodName)) ∈ lw_all := lw_g (lw_at lw_m9 21 rfl) rfl
theorem q2017 : (Jvm.Cond.code ({ cls := "StepDebtsModel", name := "ofTurn", desc := "(II)I" } : Jvm.MethodName) prog_23_method_5_code (3 : Nat) (Option.some Jvm.ClassFile.FieldType.int)) ∈ lw_all := lw_g (lw_at lw_m9 22 rfl) rfl
theorem q2019 : (Jvm.Cond.instanceMethod ({ cls := "StepDebtsModel", name := "entry", desc := "(II)I" } : Jvm.MethodName)) ∈ lw_all := lw_g (lw_at lw_m9 24 rfl) rfl
theorem q2020 : (Jvm.Cond.selects "StepDebtsModel" ({ cls := "StepDebtsModel", name := "entry", desc := "(II)I" } : Jvm.MethodName) ({ cls := "StepDebtsModel", name := "entry", desc := "(II)I" } : Jvm.MethodName)) ∈ lw_all := lw_g (lw_at lw_m9 25 rfl) rfl
theorem q2021 : (Jvm.Cond.code ({ cls := "StepDebtsModel", name := "entry", desc := "(II)I" } : Jvm.MethodName) prog_23_method_39_code (3 : Nat) (Option.some Jvm.ClassFile.FieldType.int)) ∈ lw_all := lw_g (lw_at lw_m9 26 rfl) rfl
theorem q2022 : (Jvm.Cond.methodLink "StepDebtsModel" (221 : Nat) ({ cls := "StepDebtsModel", name := "isEntry", desc := "(I)Z" } : Jvm.MethodName)) ∈ lw_all := lw_g (lw_at lw_m9 27 rfl) rfl
theorem q2023 : (Jvm.Cond.privateMethod ({ cls := "StepDebtsModel", name := "isEntry", desc := "(I)Z" } : Jvm.MethodName)) ∈ lw_tbl := lw_at lw_m9 28 rfl
theorem q2024 : (Jvm.Cond.instanceMethod ({ cls := "StepDebtsModel", name := "isEntry", desc := "(I)Z" } : Jvm.MethodName)) ∈ lw_all := lw_g (lw_at lw_m9 29 rfl) rfl
theorem q2025 : (Jvm.Cond.code ({ cls := "StepDebtsModel", name := "isEntry", desc := "(I)Z" } : Jvm.MethodName) prog_23_method_38_code (2 : Nat) (Option.some Jvm.ClassFile.FieldType.boolean)) ∈ lw_all := lw_g (lw_at lw_m9 30 rfl) rfl
theorem q2027 : (Jvm.Cond.instanceMethod ({ cls := "StepDebtsModel", name := "counts", desc := "(IIIZ)I" } : Jvm.MethodName)) ∈ lw_all := lw_g (lw_at lw_m9 32 rfl) rfl
theorem q2028 : (Jvm.Cond.selects "StepDebtsModel" ({ cls := "StepDebtsModel", name := "counts", desc := "(IIIZ)I" } : Jvm.MethodName) ({ cls := "StepDebtsModel", name := "counts", desc := "(IIIZ)I" } : Jvm.MethodName)) ∈ lw_all := lw_g (lw_at lw_m9 33 rfl) rfl
theorem q2029 : (Jvm.Cond.code ({ cls := "StepDebtsModel", name := "counts", desc := "(IIIZ)I" } : Jvm.MethodName) prog_23_method_43_code (5 : Nat) (Option.some Jvm.ClassFile.FieldType.int)) ∈ lw_all := lw_g (lw_at lw_m9 34 rfl) rfl
theorem q2030 : (Jvm.Cond.methodLink "StepDebtsModel" (227 : Nat) ({ cls := "StepDebtsModel", name := "refuses", desc := "(III)I" } : Jvm.MethodName)) ∈ lw_all := lw_g (lw_at lw_m9 35 rfl) rfl
theorem q2031 : (Jvm.Cond.privateMethod ({ cls := "StepDebtsModel", name := "refuses", desc := "(III)I" } : Jvm.MethodName)) ∈ lw_tbl := lw_at lw_m9 36 rfl
theorem q2032 : (Jvm.Cond.instanceMethod ({ cls := "StepDebtsModel", name := "refuses", desc := "(III)I" } : Jvm.MethodName)) ∈ lw_all := lw_g (lw_at lw_m9 37 rfl) rfl
theorem q2033 : (Jvm.Cond.code ({ cls := "StepDebtsModel", name := "refuses", desc := "(III)I" } : Jvm.MethodName) prog_23_method_42_code (4 : Nat) (Option.some Jvm.ClassFile.FieldType.int)) ∈ lw_all := lw_g (lw_at lw_m9 38 rfl) rfl
theorem q2034 : (Jvm.Cond.methodLink "StepDebtsModel" (230 : Nat) ({ cls := "StepDebtsModel", name := "countsOf", desc := "(IIIZ)I" } : Jvm.MethodName)) ∈ lw_all := lw_g (lw_at lw_m9 39 rfl) rfl
theorem q2035 : (Jvm.Cond.privateMethod ({ cls := "StepDebtsModel", name := "countsOf", desc := "(IIIZ)I" } : Jvm.MethodName)) ∈ lw_tbl := lw_at lw_m9 40 rfl
theorem q2036 : (Jvm.Cond.instanceMethod ({ cls := "StepDebtsModel", name := "countsOf", desc := "(IIIZ)I" } : Jvm.MethodName)) ∈ lw_all := lw_g (lw_at lw_m9 41 rfl) rfl
theorem q2037 : (Jvm.Cond.code ({ cls := "StepDebtsModel", name := "countsOf", desc := "(IIIZ)I" } : Jvm.MethodName) prog_23_method_41_code (8 : Nat) (Option.some Jvm.ClassFile.FieldType.int)) ∈ lw_all := lw_g (lw_at lw_m9 42 rfl) rfl
theorem q2038 : (Jvm.Cond.methodLink "StepDebtsModel" (224 : Nat) ({ cls := "StepDebtsModel", name := "pacesOf", desc := "(I)I" } : Jvm.MethodName)) ∈ lw_all := lw_g (lw_at lw_m9 43 rfl) rfl
theorem q2039 : (Jvm.Cond.privateMethod ({ cls := "StepDebtsModel", name := "pacesOf", desc := "(I)I" } : Jvm.MethodName)) ∈ lw_tbl := lw_at lw_m9 44 rfl
theorem q2040 : (Jvm.Cond.instanceMethod ({ cls := "StepDebtsModel", name := "pacesOf", desc := "(I)I" } : Jvm.MethodName)) ∈ lw_all := lw_g (lw_at lw_m9 45 rfl) rfl
theorem q2041 : (Jvm.Cond.code ({ cls := "StepDebtsModel", name := "pacesOf", desc := "(I)I" } : Jvm.MethodName) prog_23_method_40_code (4 : Nat) (Option.some Jvm.ClassFile.FieldType.int)) ∈ lw_all := lw_g (lw_at lw_m9 46 rfl) rfl
theorem q2043 : (Jvm.Cond.instanceMethod ({ cls := "StepDebtsModel", name := "walk", desc := "(IIIZ)I" } : Jvm.MethodName)) ∈ lw_all := lw_g (lw_at lw_m9 48 rfl) rfl
theorem q2044 : (Jvm.Cond.selects "StepDebtsModel" ({ cls := "StepDebtsModel", name := "walk", desc := "(IIIZ)I" } : Jvm.MethodName) ({ cls := "StepDebtsModel", name := "walk", desc := "(IIIZ)I" } : Jvm.MethodName)) ∈ lw_all := lw_g (lw_at lw_m9 49 rfl) rfl
theorem q2045 : (Jvm.Cond.code ({ cls := "StepDebtsModel", name := "walk", desc := "(IIIZ)I" } : Jvm.MethodName) prog_23_method_46_code (5 : Nat) (Option.some Jvm.ClassFile.FieldType.int)) ∈ lw_all := lw_g (lw_at lw_m9 50 rfl) rfl
theorem q2046 : (Jvm.Cond.methodLink "StepDebtsModel" (234 : Nat) ({ cls := "StepDebtsModel", name := "mayWalk", desc := "(IIZ)Z" } : Jvm.MethodName)) ∈ lw_all := lw_g (lw_at lw_m9 51 rfl) rfl
theorem q2047 : (Jvm.Cond.privateMethod ({ cls := "StepDebtsModel", name := "mayWalk", desc := "(IIZ)Z" } : Jvm.MethodName)) ∈ lw_tbl := lw_at lw_m9 52 rfl
theorem q2048 : (Jvm.Cond.instanceMethod ({ cls := "StepDebtsModel", name := "mayWalk", desc := "(IIZ)Z" } : Jvm.MethodName)) ∈ lw_all := lw_g (lw_at lw_m9 53 rfl) rfl
theorem q2049 : (Jvm.Cond.code ({ cls := "StepDebtsModel", name := "mayWalk", desc := "(IIZ)Z" } : Jvm.MethodName) prog_23_method_44_code (6 : Nat) (Option.some Jvm.ClassFile.FieldType.boolean)) ∈ lw_all := lw_g (lw_at lw_m9 54 rfl) rfl
theorem q2050 : (Jvm.Cond.methodLink "StepDebtsModel" (238 : Nat) ({ cls := "StepDebtsModel", name := "walks", desc := "(IIIZ)I" } : Jvm.MethodName)) ∈ lw_all := lw_g (lw_at lw_m9 55 rfl) rfl
theorem q2051 : (Jvm.Cond.privateMethod ({ cls := "StepDebtsModel", name := "walks", desc := "(IIIZ)I" } : Jvm.MethodName)) ∈ lw_tbl := lw_at lw_m9 56 rfl
theorem q2052 : (Jvm.Cond.instanceMethod ({ cls := "StepDebtsModel", name := "walks", desc := "(IIIZ)I" } : Jvm.MethodName)) ∈ lw_all := lw_g (lw_at lw_m9 57 rfl) rfl
theorem q2053 : (Jvm.Cond.code ({ cls := "StepDebtsModel", name := "walks", desc := "(IIIZ)I" } : Jvm.MethodName) prog_23_method_45_code (8 : Nat) (Option.some Jvm.ClassFile.FieldType.int)) ∈ lw_all := lw_g (lw_at lw_m9 58 rfl) rfl
theorem q2055 : (Jvm.Cond.instanceMethod ({ cls := "StepDebtsModel", name := "undo", desc := "()I" } : Jvm.MethodName)) ∈ lw_all := lw_g (lw_at lw_m9 60 rfl) rfl
theorem q2056 : (Jvm.Cond.selects "StepDebtsModel" ({ cls := "StepDebtsModel", name := "undo", desc := "()I" } : Jvm.MethodName) ({ cls := "StepDebtsModel", name := "undo", desc := "()I" } : Jvm.MethodName)) ∈ lw_all := lw_g (lw_at lw_m9 61 rfl) rfl
theorem q2057 : (Jvm.Cond.code ({ cls := "StepDebtsModel", name := "undo", desc := "()I" } : Jvm.MethodName) prog_23_method_47_code (3 : Nat) (Option.some Jvm.ClassFile.FieldType.int)) ∈ lw_all := lw_g (lw_at lw_m9 62 rfl) rfl
theorem q2059 : (Jvm.Cond.instanceMethod ({ cls := "StepDebtsModel", name := "days", desc := "(I)I" } : Jvm.MethodName)) ∈ lw_all := lw_g (lw_at lw_m9 64 rfl) rfl
theorem q2060 : (Jvm.Cond.selects "StepDebtsModel" ({ cls := "StepDebtsModel", name := "days", desc := "(I)I" } : Jvm.MethodName) ({ cls := "StepDebtsModel", name := "days", desc := "(I)I" } : Jvm.MethodName)) ∈ lw_all := lw_g (lw_at lw_m9 65 rfl) rfl
theorem q2061 : (Jvm.Cond.code ({ cls := "StepDebtsModel", name := "days", desc := "(I)I" } : Jvm.MethodName) prog_23_method_48_code (2 : Nat) (Option.some Jvm.ClassFile.FieldType.int)) ∈ lw_all := lw_g (lw_at lw_m9 66 rfl) rfl
theorem q2063 : (Jvm.Cond.instanceMethod ({ cls := "StepDebtsModel", name := "pass", desc := "(III)I" } : Jvm.MethodName)) ∈ lw_all := lw_g (lw_at lw_m9 68 rfl) rfl
theorem q2064 : (Jvm.Cond.selects "StepDebtsModel" ({ cls := "StepDebtsModel", name := "pass", desc := "(III)I" } : Jvm.MethodName) ({ cls := "StepDebtsModel", name := "pass", desc := "(III)I" } : Jvm.MethodName)) ∈ lw_all := lw_g (lw_at lw_m9 69 rfl) rfl
theorem q2065 : (Jvm.Cond.code ({ cls := "StepDebtsModel", name := "pass", desc := "(III)I" } : Jvm.MethodName) prog_23_method_49_code (5 : Nat) (Option.some Jvm.ClassFile.FieldType.int)) ∈ lw_all := lw_g (lw_at lw_m9 70 rfl) rfl
theorem q2067 : (Jvm.Cond.instanceMethod ({ cls := "StepDebtsModel", name := "marry", desc := "(II)I" } : Jvm.MethodName)) ∈ lw_all := lw_g (lw_at lw_m9 72 rfl) rfl
theorem q2068 : (Jvm.Cond.selects "StepDebtsModel" ({ cls := "StepDebtsModel", name := "marry", desc := "(II)I" } : Jvm.MethodName) ({ cls := "StepDebtsModel", name := "marry", desc := "(II)I" } : Jvm.MethodName)) ∈ lw_all := lw_g (lw_at lw_m9 73 rfl) rfl
theorem q2069 : (Jvm.Cond.code ({ cls := "StepDebtsModel", name := "marry", desc := "(II)I" } : Jvm.MethodName) prog_23_method_50_code (4 : Nat) (Option.some Jvm.ClassFile.FieldType.int)) ∈ lw_all := lw_g (lw_at lw_m9 74 rfl) rfl
theorem q2071 : (Jvm.Cond.instanceMethod ({ cls := "StepDebtsModel", name := "mend", desc := "(I)I" } : Jvm.MethodName)) ∈ lw_all := lw_g (lw_at lw_m9 76 rfl) rfl
theorem q2072 : (Jvm.Cond.selects "StepDebtsModel" ({ cls := "StepDebtsModel", name := "mend", desc := "(I)I" } : Jvm.MethodName) ({ cls := "StepDebtsModel", name := "mend", desc := "(I)I" } : Jvm.MethodName)) ∈ lw_all := lw_g (lw_at lw_m9 77 rfl) rfl
theorem q2073 : (Jvm.Cond.code ({ cls := "StepDebtsModel", name := "mend", desc := "(I)I" } : Jvm.MethodName) prog_23_method_51_code (3 : Nat) (Option.some Jvm.ClassFile.FieldType.int)) ∈ lw_all := lw_g (lw_at lw_m9 78 rfl) rfl
theorem q2075 : (Jvm.Cond.instanceMethod ({ cls := "StepDebtsModel", name := "worn", desc := "(II)I" } : Jvm.MethodName)) ∈ lw_all := lw_g (lw_at lw_m9 80 rfl) rfl
theorem q2076 : (Jvm.Cond.selects "StepDebtsModel" ({ cls := "StepDebtsModel", name := "worn", desc := "(II)I" } : Jvm.MethodName) ({ cls := "StepDebtsModel", name := "worn", desc := "(II)I" } : Jvm.MethodName)) ∈ lw_all := lw_g (lw_at lw_m9 81 rfl) rfl
theorem q2077 : (Jvm.Cond.code ({ cls := "StepDebtsModel", name := "worn", desc := "(II)I" } : Jvm.MethodName) prog_23_method_52_code (4 : Nat) (Option.some Jvm.ClassFile.FieldType.int)) ∈ lw_all := lw_g (lw_at lw_m9 82 rfl) rfl
theorem q2079 : (Jvm.Cond.instanceMethod ({ cls := "StepDebtsModel", name := "missed", desc := "()I" } : Jvm.MethodName)) ∈ lw_all := lw_g (lw_at lw_m9 84 rfl) rfl
theorem q2080 : (Jvm.Cond.selects "StepDebtsModel" ({ cls := "StepDebtsModel", name := "missed", desc := "()I" } : Jvm.MethodName) ({ cls := "StepDebtsModel", name := "missed", desc := "()I" } : Jvm.MethodName)) ∈ lw_all := lw_g (lw_at lw_m9 85 rfl) rfl
theorem q2081 : (Jvm.Cond.code ({ cls := "StepDebtsModel", name := "missed", desc := "()I" } : Jvm.MethodName) prog_23_method_53_code (2 : Nat) (Option.some Jvm.ClassFile.FieldType.int)) ∈ lw_all := lw_g (lw_at lw_m9 86 rfl) rfl
theorem q2083 : (Jvm.Cond.instanceMethod ({ cls := "StepDebtsModel", name := "deal", desc := "(IZ)I" } : Jvm.MethodName)) ∈ lw_all := lw_g (lw_at lw_m9 88 rfl) rfl
theorem q2084 : (Jvm.Cond.selects "StepDebtsModel" ({ cls := "StepDebtsModel", name := "deal", desc := "(IZ)I" } : Jvm.MethodName) ({ cls := "StepDebtsModel", name := "deal", desc := "(IZ)I" } : Jvm.MethodName)) ∈ lw_all := lw_g (lw_at lw_m9 89 rfl) rfl
theorem q2085 : (Jvm.Cond.code ({ cls := "StepDebtsModel", name := "deal", desc := "(IZ)I" } : Jvm.MethodName) prog_23_method_55_code (9 : Nat) (Option.some Jvm.ClassFile.FieldType.int)) ∈ lw_all := lw_g (lw_at lw_m9 90 rfl) rfl
theorem q2086 : (Jvm.Cond.methodLink "StepDebtsModel" (241 : Nat) ({ cls := "StepDebtsModel", name := "bits", desc := "(I)I" } : Jvm.MethodName)) ∈ lw_all := lw_g (lw_at lw_m9 91 rfl) rfl
theorem q2087 : (Jvm.Cond.static ({ cls := "StepDebtsModel", name := "bits", desc := "(I)I" } : Jvm.MethodName)) ∈ lw_all := lw_g (lw_at lw_m9 92 rfl) rfl
theorem q2088 : (Jvm.Cond.code ({ cls := "StepDebtsModel", name := "bits", desc := "(I)I" } : Jvm.MethodName) prog_23_method_54_code (3 : Nat) (Option.some Jvm.ClassFile.FieldType.int)) ∈ lw_all := lw_g (lw_at lw_m9 93 rfl) rfl
theorem q2090 : (Jvm.Cond.instanceMethod ({ cls := "StepDebtsModel", name := "plan", desc := "(IIZ)I" } : Jvm.MethodName)) ∈ lw_all := lw_g (lw_at lw_m9 95 rfl) rfl
theorem q2091 : (Jvm.Cond.selects "StepDebtsModel" ({ cls := "StepDebtsModel", name := "plan", desc := "(IIZ)I" } : Jvm.MethodName) ({ cls := "StepDebtsModel", name := "plan", desc := "(IIZ)I" } : Jvm.MethodName)) ∈ lw_all := lw_g (lw_at lw_m9 96 rfl) rfl
theorem q2092 : (Jvm.Cond.code ({ cls := "StepDebtsModel", name := "plan", desc := "(IIZ)I" } : Jvm.MethodName) prog_23_method_58_code (9 : Nat) (Option.some Jvm.ClassFile.FieldType.int)) ∈ lw_all := lw_g (lw_at lw_m9 97 rfl) rfl
theorem q2093 : (Jvm.Cond.methodLink "StepDebtsModel" (247 : Nat) ({ cls := "StepDebtsModel", name := "countedBy", desc := "(III)I" } : Jvm.MethodName)) ∈ lw_all := lw_g (lw_at lw_m9 98 rfl) rfl
theorem q2094 : (Jvm.Cond.privateMethod ({ cls := "StepDebtsModel", name := "countedBy", desc := "(III)I" } : Jvm.MethodName)) ∈ lw_tbl := lw_at lw_m9 99 rfl
theorem q2095 : (Jvm.Cond.instanceMethod ({ cls := "StepDebtsModel", name := "countedBy", desc := "(III)I" } : Jvm.MethodName)) ∈ lw_all := lw_g (lw_at lw_m9 100 rfl) rfl
theorem q2096 : (Jvm.Cond.code ({ cls := "StepDebtsModel", name := "countedBy", desc := "(III)I" } : Jvm.MethodName) prog_23_method_56_code (7 : Nat) (Option.some Jvm.ClassFile.FieldType.int)) ∈ lw_all := lw_g (lw_at lw_m9 101 rfl) rfl
theorem q2097 : (Jvm.Cond.methodLink "StepDebtsModel" (250 : Nat) ({ cls := "StepDebtsModel", name := "dayOn", desc := "(II)I" } : Jvm.MethodName)) ∈ lw_all := lw_g (lw_at lw_m9 102 rfl) rfl
theorem q2098 : (Jvm.Cond.privateMethod ({ cls := "StepDebtsModel", name := "dayOn", desc := "(II)I" } : Jvm.MethodName)) ∈ lw_tbl := lw_at lw_m9 103 rfl
theorem q2099 : (Jvm.Cond.instanceMethod ({ cls := "StepDebtsModel", name := "dayOn", desc := "(II)I" } : Jvm.MethodName)) ∈ lw_all := lw_g (lw_at lw_m9 104 rfl) rfl
theorem q2100 : (Jvm.Cond.code ({ cls := "StepDebtsModel", name := "dayOn", desc := "(II)I" } : Jvm.MethodName) prog_23_method_57_code (8 : Nat) (Option.some Jvm.ClassFile.FieldType.int)) ∈ lw_all := lw_g (lw_at lw_m9 105 rfl) rfl
theorem q2102 : (Jvm.Cond.instanceMethod ({ cls := "StepDebtsModel", name := "burn", desc := "(II)I" } : Jvm.MethodName)) ∈ lw_all := lw_g (lw_at lw_m9 107 rfl) rfl
theorem q2103 : (Jvm.Cond.selects "StepDebtsModel" ({ cls := "StepDebtsModel", name := "burn", desc := "(II)I" } : Jvm.MethodName) ({ cls := "StepDebtsModel", name := "burn", desc := "(II)I" } : Jvm.MethodName)) ∈ lw_all := lw_g (lw_at lw_m9 108 rfl) rfl
theorem q2104 : (Jvm.Cond.code ({ cls := "StepDebtsModel", name := "burn", desc := "(II)I" } : Jvm.MethodName) prog_23_method_60_code (5 : Nat) (Option.some Jvm.ClassFile.FieldType.int)) ∈ lw_all := lw_g (lw_at lw_m9 109 rfl) rfl
theorem q2105 : (Jvm.Cond.methodLink "StepDebtsModel" (253 : Nat) ({ cls := "StepDebtsModel", name := "burntNow", desc := "()I" } : Jvm.MethodName)) ∈ lw_all := lw_g (lw_at lw_m9 110 rfl) rfl
theorem q2106 : (Jvm.Cond.privateMethod ({ cls := "StepDebtsModel", name := "burntNow", desc := "()I" } : Jvm.MethodName)) ∈ lw_tbl := lw_at lw_m9 111 rfl
theorem q2107 : (Jvm.Cond.instanceMethod ({ cls := "StepDebtsModel", name := "burntNow", desc := "()I" } : Jvm.MethodName)) ∈ lw_all := lw_g (lw_at lw_m9 112 rfl) rfl
theorem q2108 : (Jvm.Cond.code ({ cls := "StepDebtsModel", name := "burntNow", desc := "()I" } : Jvm.MethodName) prog_23_method_59_code (3 : Nat) (Option.some Jvm.ClassFile.FieldType.int)) ∈ lw_all := lw_g (lw_at lw_m9 113 rfl) rfl
theorem q2110 : (Jvm.Cond.instanceMethod ({ cls := "StepDebtsModel", name := "span", desc := "(IZ)I" } : Jvm.MethodName)) ∈ lw_all := lw_g (lw_at lw_m9 115 rfl) rfl
theorem q2111 : (Jvm.Cond.selects "StepDebtsModel" ({ cls := "StepDebtsModel", name := "span", desc := "(IZ)I" } : Jvm.MethodName) ({ cls := "StepDebtsModel", name := "span", desc := "(IZ)I" } : Jvm.MethodName)) ∈ lw_all := lw_g (lw_at lw_m9 116 rfl) rfl
theorem q2112 : (Jvm.Cond.code ({ cls := "StepDebtsModel", name := "span", desc := "(IZ)I" } : Jvm.MethodName) prog_23_method_63_code (6 : Nat) (Option.some Jvm.ClassFile.FieldType.int)) ∈ lw_all := lw_g (lw_at lw_m9 117 rfl) rfl
theorem q2113 : (Jvm.Cond.methodLink "StepDebtsModel" (259 : Nat) ({ cls := "StepDebtsModel", name := "asks", desc := "(I)I" } : Jvm.MethodName)) ∈ lw_all := lw_g (lw_at lw_m9 118 rfl) rfl
theorem q2114 : (Jvm.Cond.privateMethod ({ cls := "StepDebtsModel", name := "asks", desc := "(I)I" } : Jvm.MethodName)) ∈ lw_tbl := lw_at lw_m9 119 rfl
theorem q2115 : (Jvm.Cond.instanceMethod ({ cls := "StepDebtsModel", name := "asks", desc := "(I)I" } : Jvm.MethodName)) ∈ lw_all := lw_g (lw_at lw_m9 120 rfl) rfl
theorem q2116 : (Jvm.Cond.code ({ cls := "StepDebtsModel", name := "asks", desc := "(I)I" } : Jvm.MethodName) prog_23_method_61_code (5 : Nat) (Option.some Jvm.ClassFile.FieldType.int)) ∈ lw_all := lw_g (lw_at lw_m9 121 rfl) rfl
theorem q2117 : (Jvm.Cond.methodLink "StepDebtsModel" (262 : Nat) ({ cls := "StepDebtsModel", name := "knownOf", desc := "(I)I" } : Jvm.MethodName)) ∈ lw_all := lw_g (lw_at lw_m9 122 rfl) rfl
theorem q2118 : (Jvm.Cond.privateMethod ({ cls := "StepDebtsModel", name := "knownOf", desc := "(I)I" } : Jvm.MethodName)) ∈ lw_tbl := lw_at lw_m9 123 rfl
theorem q2119 : (Jvm.Cond.instanceMethod ({ cls := "StepDebtsModel", name := "knownOf", desc := "(I)I" } : Jvm.MethodName)) ∈ lw_all := lw_g (lw_at lw_m9 124 rfl) rfl
theorem q2120 : (Jvm.Cond.code ({ cls := "StepDebtsModel", name := "knownOf", desc := "(I)I" } : Jvm.MethodName) prog_23_method_62_code (4 : Nat) (Option.some Jvm.ClassFile.FieldType.int)) ∈ lw_all := lw_g (lw_at lw_m9 125 rfl) rfl
theorem q2122 : (Jvm.Cond.instanceMethod ({ cls := "StepDebtsModel", name := "proof", desc := "(II)I" } : Jvm.MethodName)) ∈ lw_all := lw_g (lw_at lw_m9 127 rfl) rfl
theorem q2123 : (Jvm.Cond.selects "StepDebtsModel" ({ cls := "StepDebtsModel", name := "proof", desc := "(II)I" } : Jvm.MethodName) ({ cls := "StepDebtsModel", name := "proof", desc := "(II)I" } : Jvm.MethodName)) ∈ lw_all := lw_g (lw_at lw_m9 128 rfl) rfl
theorem q2124 : (Jvm.Cond.code ({ cls := "StepDebtsModel", name := "proof", desc := "(II)I" } : Jvm.MethodName) prog_23_method_65_code (6 : Nat) (Option.some Jvm.ClassFile.FieldType.int)) ∈ lw_all := lw_g (lw_at lw_m9 129 rfl) rfl
theorem q2125 : (Jvm.Cond.constant "StepDebtsModel" (275 : Nat) (5999940 : Int32)) ∈ lw_all := lw_g (lw_at lw_m9 130 rfl) rfl
theorem q2126 : (Jvm.Cond.methodLink "StepDebtsModel" (271 : Nat) ({ cls := "StepDebtsModel", name := "sets", desc := "(III)V" } : Jvm.MethodName)) ∈ lw_all := lw_g (lw_at lw_m9 131 rfl) rfl
theorem q2127 : (Jvm.Cond.privateMethod ({ cls := "StepDebtsModel", name := "sets", desc := "(III)V" } : Jvm.MethodName)) ∈ lw_tbl := lw_at lw_m9 132 rfl
theorem q2128 : (Jvm.Cond.instanceMethod ({ cls := "StepDebtsModel", name := "sets", desc := "(III)V" } : Jvm.MethodName)) ∈ lw_all := lw_g (lw_at lw_m9 133 rfl) rfl
theorem q2129 : (Jvm.Cond.code ({ cls := "StepDebtsModel", name := "sets", desc := "(III)V" } : Jvm.MethodName) prog_23_method_64_code (5 : Nat) (Option.none : Option Jvm.ClassFile.FieldType)) ∈ lw_all := lw_g (lw_at lw_m9 134 rfl) rfl
theorem q2131 : (Jvm.Cond.instanceMethod ({ cls := "StepDebtsModel", name := "ways", desc := "()J" } : Jvm.MethodName)) ∈ lw_all := lw_g (lw_at lw_m9 136 rfl) rfl
theorem q2132 : (Jvm.Cond.selects "StepDebtsModel" ({ cls := "StepDebtsModel", name := "ways", desc := "()J" } : Jvm.MethodName) ({ cls := "StepDebtsModel", name := "ways", desc := "()J" } : Jvm.MethodName)) ∈ lw_all := lw_g (lw_at lw_m9 137 rfl) rfl
theorem q2133 : (Jvm.Cond.code ({ cls := "StepDebtsModel", name := "ways", desc := "()J" } : Jvm.MethodName) prog_23_method_66_code (9 : Nat) (Option.some Jvm.ClassFile.FieldType.long)) ∈ lw_all := lw_g (lw_at lw_m9 138 rfl) rfl
theorem q2135 : (Jvm.Cond.instanceMethod ({ cls := "StepDebtsModel", name := "live", desc := "(I)I" } : Jvm.MethodName)) ∈ lw_all := lw_g (lw_at lw_m9 140 rfl) rfl
theorem q2136 : (Jvm.Cond.selects "StepDebtsModel" ({ cls := "StepDebtsModel", name := "live", desc := "(I)I" } : Jvm.MethodName) ({ cls := "StepDebtsModel", name := "live", desc := "(I)I" } : Jvm.MethodName)) ∈ lw_all := lw_g (lw_at lw_m9 141 rfl) rfl
theorem q2137 : (Jvm.Cond.code ({ cls := "StepDebtsModel", name := "live", desc := "(I)I" } : Jvm.MethodName) prog_23_method_68_code (7 : Nat) (Option.some Jvm.ClassFile.FieldType.int)) ∈ lw_all := lw_g (lw_at lw_m9 142 rfl) rfl
theorem q2138 : (Jvm.Cond.methodLink "StepDebtsModel" (277 : Nat) ({ cls := "StepDebtsModel", name := "draw", desc := "(I)I" } : Jvm.MethodName)) ∈ lw_all := lw_g (lw_at lw_m9 143 rfl) rfl
theorem q2139 : (Jvm.Cond.privateMethod ({ cls := "StepDebtsModel", name := "draw", desc := "(I)I" } : Jvm.MethodName)) ∈ lw_tbl := lw_at lw_m9 144 rfl
theorem q2140 : (Jvm.Cond.instanceMethod ({ cls := "StepDebtsModel", name := "draw", desc := "(I)I" } : Jvm.MethodName)) ∈ lw_all := lw_g (lw_at lw_m9 145 rfl) rfl
theorem q2141 : (Jvm.Cond.code ({ cls := "StepDebtsModel", name := "draw", desc := "(I)I" } : Jvm.MethodName) prog_23_method_67_code (2 : Nat) (Option.some Jvm.ClassFile.FieldType.int)) ∈ lw_all := lw_g (lw_at lw_m9 146 rfl) rfl
theorem q2142 : (Jvm.Cond.constant "StepDebtsModel" (276 : Nat) (1103515245 : Int32)) ∈ lw_all := lw_g (lw_at lw_m9 147 rfl) rfl
theorem q2144 : (Jvm.Cond.instanceMethod ({ cls := "StepDebtsModel", name := "seed", desc := "(I)I" } : Jvm.MethodName)) ∈ lw_all := lw_g (lw_at lw_m9 149 rfl) rfl
theorem q2145 : (Jvm.Cond.selects "StepDebtsModel" ({ cls := "StepDebtsModel", name := "seed", desc := "(I)I" } : Jvm.MethodName) ({ cls := "StepDebtsModel", name := "seed", desc := "(I)I" } : Jvm.MethodName)) ∈ lw_all := lw_g (lw_at lw_m9 150 rfl) rfl
theorem q2146 : (Jvm.Cond.code ({ cls := "StepDebtsModel", name := "seed", desc := "(I)I" } : Jvm.MethodName) prog_23_method_69_code (3 : Nat) (Option.some Jvm.ClassFile.FieldType.int)) ∈ lw_all := lw_g (lw_at lw_m9 151 rfl) rfl
theorem q2148 : (Jvm.Cond.instanceMethod ({ cls := "StepDebtsModel", name := "image", desc := "()V" } : Jvm.MethodName)) ∈ lw_all := lw_g (lw_at lw_m9 153 rfl) rfl
theorem q2149 : (Jvm.Cond.selects "StepDebtsModel" ({ cls := "StepDebtsModel", name := "image", desc := "()V" } : Jvm.MethodName) ({ cls := "StepDebtsModel", name := "image", desc := "()V" } : Jvm.MethodName)) ∈ lw_all := lw_g (lw_at lw_m9 154 rfl) rfl
theorem q2150 : (Jvm.Cond.code ({ cls := "StepDebtsModel", name := "image", desc := "()V" } : Jvm.MethodName) prog_23_method_70_code (2 : Nat) (Option.none : Option Jvm.ClassFile.FieldType)) ∈ lw_all := lw_g (lw_at lw_m9 155 rfl) rfl
theorem q2152 : (Jvm.Cond.instanceMethod ({ cls := "StepDebtsModel", name := "back", desc := "()Z" } : Jvm.MethodName)) ∈ lw_all := lw_g (lw_at lw_m9 157 rfl) rfl
theorem q2153 : (Jvm.Cond.selects "StepDebtsModel" ({ cls := "StepDebtsModel", name := "back", desc := "()Z" } : Jvm.MethodName) ({ cls := "StepDebtsModel", name := "back", desc := "()Z" } : Jvm.MethodName)) ∈ lw_all := lw_g (lw_at lw_m9 158 rfl) rfl
theorem q2154 : (Jvm.Cond.code ({ cls := "StepDebtsModel", name := "back", desc := "()Z" } : Jvm.MethodName) prog_23_method_71_code (2 : Nat) (Option.some Jvm.ClassFile.FieldType.boolean)) ∈ lw_all := lw_g (lw_at lw_m9 159 rfl) rfl
theorem q2156 : (Jvm.Cond.instanceMethod ({ cls := "StepDebtsModel", name := "count", desc := "(I)I" } : Jvm.MethodName)) ∈ lw_all := lw_g (lw_at lw_m9 161 rfl) rfl
theorem q2157 : (Jvm.Cond.selects "StepDebtsModel" ({ cls := "StepDebtsModel", name := "count", desc := "(I)I" } : Jvm.MethodName) ({ cls := "StepDebtsModel", name := "count", desc := "(I)I" } : Jvm.MethodName)) ∈ lw_all := lw_g (lw_at lw_m9 162 rfl) rfl
theorem q2158 : (Jvm.Cond.code ({ cls := "StepDebtsModel", name := "count", desc := "(I)I" } : Jvm.MethodName) prog_23_method_72_code (5 : Nat) (Option.some Jvm.ClassFile.FieldType.int)) ∈ lw_all := lw_g (lw_at lw_m9 163 rfl) rfl
theorem q2180 : (Jvm.Cond.castable "StepDebtsModel" "java/lang/Object") ∈ lw_tbl := lw_at lw_m9 185 rfl
theorem in_X6 : ∀ w ∈ wsX60, w ∈ lw_all := lw_in wsX60 [1788, 1790, 1792, 1794, 1796, 1798, 1800, 1802, 1804, 1806, 1808, 1810, 1812, 1814, 1816, 1818, 1820, 1822, 1824, 1826, 1828, 1830, 1832, 1834, 1836] (by decide +kernel) (by decide +kernel)
