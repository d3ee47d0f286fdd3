/-! PeacockLawnsModel -/
set_option maxRecDepth 100000
def RX3 : String := "PeacockLawnsModel"
def TX3 : u_T := fun k => match k with
  | 0 => ("PeacockLawnsModel", "thrown", "I", false)
  | 1 => ("PeacockLawnsModel", "now", "[I", true)
  | 2 => ("PeacockLawnsModel", "saved", "[I", true)
  | 3 => ("PeacockLawnsModel", "ahead", "[I", true)
  | 4 => ("PeacockLawnsModel", "before", "[I", true)
  | 5 => ("PeacockLawnsModel", "history", "[[I", true)
  | 6 => ("PeacockLawnsModel", "kept", "I", false)
  | 7 => ("PeacockLawnsModel", "reason", "I", false)
  | 8 => ("PeacockLawnsModel", "detail", "I", false)
  | 9 => ("PeacockLawnsModel", "cause", "I", false)
  | 10 => ("PeacockLawnsModel", "causeDetail", "I", false)
  | 11 => ("PeacockLawnsModel", "isSaved", "Z", false)
  | 12 => ("PeacockLawnsModel", "isInText", "Z", false)
  | 13 => ("PeacockLawnsModel", "order", "[I", true)
  | 14 => ("PeacockLawnsModel", "ordered", "I", false)
  | 15 => ("PeacockLawnsModel", "hatching", "I", false)
  | 16 => ("PeacockLawnsModel", "line", "[C", true)
  | 17 => ("PeacockLawnsModel", "written", "I", false)
  | 18 => ("PeacockLawnsModel", "input", "[C", true)
  | 19 => ("PeacockLawnsModel", "length", "I", false)
  | 20 => ("PeacockLawnsModel", "at", "I", false)
  | 21 => ("PeacockLawnsModel", "fault", "I", false)
  | 22 => ("PeacockLawnsModel", "isWrong", "Z", false)
  | 23 => ("PeacockLawnsModel", "command", "C", false)
  | 24 => ("PeacockLawnsModel", "toldOne", "I", false)
  | 25 => ("PeacockLawnsModel", "toldTwo", "I", false)
  | _ => ("PeacockLawnsModel", "toldThree", "I", false)
def tyX3 : Nat → FieldType := fun k => match k with
  | 0 => .int
  | 1 => .array .int
  | 2 => .array .int
  | 3 => .array .int
  | 4 => .array .int
  | 5 => .array (.array .int)
  | 6 => .int
  | 7 => .int
  | 8 => .int
  | 9 => .int
  | 10 => .int
  | 11 => .boolean
  | 12 => .boolean
  | 13 => .array .int
  | 14 => .int
  | 15 => .int
  | 16 => .array .char
  | 17 => .int
  | 18 => .array .char
  | 19 => .int
  | 20 => .int
  | 21 => .int
  | 22 => .boolean
  | 23 => .char
  | 24 => .int
  | 25 => .int
  | _ => .int
abbrev wsX30 : List Cond := u_ws RX3 TX3 27
set_option maxRecDepth 100000 in
theorem nmX3 : ∀ a, a < 27 → ∀ b, b < 27 → a ≠ b → (TX3 a).2.1 ≠ (TX3 b).2.1 := by decide +kernel
set_option maxRecDepth 100000 in
theorem tyX3_ok : ∀ k, k < 27 → parseFieldDescriptor (TX3 k).2.2.1 = some (tyX3 k) := by decide +kernel
abbrev cX3_init : ByteArray := prog_14_method_1_code
def yX3_init : MethodName := ⟨RX3, "<init>", "()V"⟩
def dkwX3_init_5 : List UInt8 := [167, 255, 237, 177]
abbrev dktX3_init_5 : List UInt8 := dkwX3_init_5 ++ []
def dkwX3_init_4 : List UInt8 := [16, 30, 79, 3, 60, 27, 16, 12, 162, 0, 19, 42, 180, 0, 9, 16, 22, 27, 96, 8, 79, 132, 1, 1]
abbrev dktX3_init_4 : List UInt8 := dkwX3_init_4 ++ dktX3_init_5
def dkwX3_init_3 : List UInt8 := [16, 60, 188, 5, 181, 0, 34, 42, 2, 181, 0, 37, 42, 180, 0, 9, 4, 7, 79, 42, 180, 0, 9, 5]
abbrev dktX3_init_3 : List UInt8 := dkwX3_init_3 ++ dktX3_init_4
def dkwX3_init_2 : List UInt8 := [197, 0, 22, 2, 181, 0, 24, 42, 16, 12, 188, 10, 181, 0, 27, 42, 16, 120, 188, 5, 181, 0, 30, 42]
abbrev dktX3_init_2 : List UInt8 := dkwX3_init_2 ++ dktX3_init_3
def dkwX3_init_1 : List UInt8 := [17, 0, 130, 188, 10, 181, 0, 16, 42, 17, 0, 130, 188, 10, 181, 0, 19, 42, 16, 8, 17, 0, 130]
abbrev dktX3_init_1 : List UInt8 := dkwX3_init_1 ++ dktX3_init_2
def dkwX3_init_0 : List UInt8 := [42, 183, 0, 3, 42, 17, 0, 130, 188, 10, 181, 0, 9, 42, 17, 0, 130, 188, 10, 181, 0, 13, 42]
abbrev dktX3_init_0 : List UInt8 := dkwX3_init_0 ++ dktX3_init_1
theorem dksX3_init_0 : cX3_init.data.toList.drop 0 = dktX3_init_0 := by decide +kernel
theorem dksX3_init_1 : cX3_init.data.toList.drop 23 = dktX3_init_1 := dk_seg dksX3_init_0 23 rfl rfl
theorem dksX3_init_2 : cX3_init.data.toList.drop 46 = dktX3_init_2 := dk_seg dksX3_init_1 23 rfl rfl
theorem dksX3_init_3 : cX3_init.data.toList.drop 70 = dktX3_init_3 := dk_seg dksX3_init_2 24 rfl rfl
theorem dksX3_init_4 : cX3_init.data.toList.drop 94 = dktX3_init_4 := dk_seg dksX3_init_3 24 rfl rfl
theorem dksX3_init_5 : cX3_init.data.toList.drop 118 = dktX3_init_5 := dk_seg dksX3_init_4 24 rfl rfl
theorem dX3_init_0 : decode cX3_init 0 = .ok (.aload_n 0, 1) := dk_42 (dk_at dksX3_init_0 0 rfl rfl)
theorem dX3_init_1 : decode cX3_init 1 = .ok (.invokespecial 3, 3) := dk_183 0 3 (dk_at dksX3_init_0 1 rfl rfl)
theorem dX3_init_4 : decode cX3_init 4 = .ok (.aload_n 0, 1) := dk_42 (dk_at dksX3_init_0 4 rfl rfl)
theorem dX3_init_5 : decode cX3_init 5 = .ok (.sipush 130, 3) := dk_17 0 130 (dk_at dksX3_init_0 5 rfl rfl)
theorem dX3_init_8 : decode cX3_init 8 = .ok (.newarray .int, 2) := dk_188_10 (dk_at dksX3_init_0 8 rfl rfl)
theorem dX3_init_10 : decode cX3_init 10 = .ok (.putfield 9, 3) := dk_181 0 9 (dk_at dksX3_init_0 10 rfl rfl)
theorem dX3_init_13 : decode cX3_init 13 = .ok (.aload_n 0, 1) := dk_42 (dk_at dksX3_init_0 13 rfl rfl)
theorem dX3_init_14 : decode cX3_init 14 = .ok (.sipush 130, 3) := dk_17 0 130 (dk_at dksX3_init_0 14 rfl rfl)
theorem dX3_init_17 : decode cX3_init 17 = .ok (.newarray .int, 2) := dk_188_10 (dk_at dksX3_init_0 17 rfl rfl)
theorem dX3_init_19 : decode cX3_init 19 = .ok (.putfield 13, 3) := dk_181 0 13 (dk_at dksX3_init_0 19 rfl rfl)
theorem dX3_init_22 : decode cX3_init 22 = .ok (.aload_n 0, 1) := dk_42 (dk_at dksX3_init_0 22 rfl rfl)
theorem dX3_init_23 : decode cX3_init 23 = .ok (.sipush 130, 3) := dk_17 0 130 (dk_at dksX3_init_1 0 rfl rfl)
theorem dX3_init_26 : decode cX3_init 26 = .ok (.newarray .int, 2) := dk_188_10 (dk_at dksX3_init_1 3 rfl rfl)
theorem dX3_init_28 : decode cX3_init 28 = .ok (.putfield 16, 3) := dk_181 0 16 (dk_at dksX3_init_1 5 rfl rfl)
theorem dX3_init_31 : decode cX3_init 31 = .ok (.aload_n 0, 1) := dk_42 (dk_at dksX3_init_1 8 rfl rfl)
theorem dX3_init_32 : decode cX3_init 32 = .ok (.sipush 130, 3) := dk_17 0 130 (dk_at dksX3_init_1 9 rfl rfl)
theorem dX3_init_35 : decode cX3_init 35 = .ok (.newarray .int, 2) := dk_188_10 (dk_at dksX3_init_1 12 rfl rfl)
theorem dX3_init_37 : decode cX3_init 37 = .ok (.putfield 19, 3) := dk_181 0 19 (dk_at dksX3_init_1 14 rfl rfl)
theorem dX3_init_40 : decode cX3_init 40 = .ok (.aload_n 0, 1) := dk_42 (dk_at dksX3_init_1 17 rfl rfl)
theorem dX3_init_41 : decode cX3_init 41 = .ok (.bipush 8, 2) := dk_16 8 (dk_at dksX3_init_1 18 rfl rfl)
theorem dX3_init_43 : decode cX3_init 43 = .ok (.sipush 130, 3) := dk_17 0 130 (dk_at dksX3_init_1 20 rfl rfl)
theorem dX3_init_46 : decode cX3_init 46 = .ok (.multianewarray 22 2, 4) := by decide +kernel
theorem dX3_init_50 : decode cX3_init 50 = .ok (.putfield 24, 3) := dk_181 0 24 (dk_at dksX3_init_2 4 rfl rfl)
theorem dX3_init_53 : decode cX3_init 53 = .ok (.aload_n 0, 1) := dk_42 (dk_at dksX3_init_2 7 rfl rfl)
theorem dX3_init_54 : decode cX3_init 54 = .ok (.bipush 12, 2) := dk_16 12 (dk_at dksX3_init_2 8 rfl rfl)
theorem dX3_init_56 : decode cX3_init 56 = .ok (.newarray .int, 2) := dk_188_10 (dk_at dksX3_init_2 10 rfl rfl)
theorem dX3_init_58 : decode cX3_init 58 = .ok (.putfield 27, 3) := dk_181 0 27 (dk_at dksX3_init_2 12 rfl rfl)
theorem dX3_init_61 : decode cX3_init 61 = .ok (.aload_n 0, 1) := dk_42 (dk_at dksX3_init_2 15 rfl rfl)
theorem dX3_init_62 : decode cX3_init 62 = .ok (.bipush 120, 2) := dk_16 120 (dk_at dksX3_init_2 16 rfl rfl)
theorem dX3_init_64 : decode cX3_init 64 = .ok (.newarray .char, 2) := dk_188_5 (dk_at dksX3_init_2 18 rfl rfl)
theorem dX3_init_66 : decode cX3_init 66 = .ok (.putfield 30, 3) := dk_181 0 30 (dk_at dksX3_init_2 20 rfl rfl)
theorem dX3_init_69 : decode cX3_init 69 = .ok (.aload_n 0, 1) := dk_42 (dk_at dksX3_init_2 23 rfl rfl)
theorem dX3_init_70 : decode cX3_init 70 = .ok (.bipush 60, 2) := dk_16 60 (dk_at dksX3_init_3 0 rfl rfl)
theorem dX3_init_72 : decode cX3_init 72 = .ok (.newarray .char, 2) := dk_188_5 (dk_at dksX3_init_3 2 rfl rfl)
theorem dX3_init_74 : decode cX3_init 74 = .ok (.putfield 34, 3) := dk_181 0 34 (dk_at dksX3_init_3 4 rfl rfl)
theorem dX3_init_77 : decode cX3_init 77 = .ok (.aload_n 0, 1) := dk_42 (dk_at dksX3_init_3 7 rfl rfl)
theorem dX3_init_78 : decode cX3_init 78 = .ok (.iconst (-1), 1) := dk_2 (dk_at dksX3_init_3 8 rfl rfl)
theorem dX3_init_79 : decode cX3_init 79 = .ok (.putfield 37, 3) := dk_181 0 37 (dk_at dksX3_init_3 9 rfl rfl)
theorem dX3_init_82 : decode cX3_init 82 = .ok (.aload_n 0, 1) := dk_42 (dk_at dksX3_init_3 12 rfl rfl)
theorem dX3_init_83 : decode cX3_init 83 = .ok (.getfield 9, 3) := dk_180 0 9 (dk_at dksX3_init_3 13 rfl rfl)
theorem dX3_init_86 : decode cX3_init 86 = .ok (.iconst 1, 1) := dk_4 (dk_at dksX3_init_3 16 rfl rfl)
theorem dX3_init_87 : decode cX3_init 87 = .ok (.iconst 4, 1) := dk_7 (dk_at dksX3_init_3 17 rfl rfl)
theorem dX3_init_88 : decode cX3_init 88 = .ok (.iastore, 1) := dk_79 (dk_at dksX3_init_3 18 rfl rfl)
theorem dX3_init_89 : decode cX3_init 89 = .ok (.aload_n 0, 1) := dk_42 (dk_at dksX3_init_3 19 rfl rfl)
theorem dX3_init_90 : decode cX3_init 90 = .ok (.getfield 9, 3) := dk_180 0 9 (dk_at dksX3_init_3 20 rfl rfl)
theorem dX3_init_93 : decode cX3_init 93 = .ok (.iconst 2, 1) := dk_5 (dk_at dksX3_init_3 23 rfl rfl)
theorem dX3_init_94 : decode cX3_init 94 = .ok (.bipush 30, 2) := dk_16 30 (dk_at dksX3_init_4 0 rfl rfl)
theorem dX3_init_96 : decode cX3_init 96 = .ok (.iastore, 1) := dk_79 (dk_at dksX3_init_4 2 rfl rfl)
theorem dX3_init_97 : decode cX3_init 97 = .ok (.iconst 0, 1) := dk_3 (dk_at dksX3_init_4 3 rfl rfl)
theorem dX3_init_98 : decode cX3_init 98 = .ok (.istore_n 1, 1) := dk_60 (dk_at dksX3_init_4 4 rfl rfl)
theorem dX3_init_99 : decode cX3_init 99 = .ok (.iload_n 1, 1) := dk_27 (dk_at dksX3_init_4 5 rfl rfl)
theorem dX3_init_100 : decode cX3_init 100 = .ok (.bipush 12, 2) := dk_16 12 (dk_at dksX3_init_4 6 rfl rfl)
theorem dX3_init_102 : decode cX3_init 102 = .ok (.if_icmp .ge 19, 3) := dk_162 0 19 (dk_at dksX3_init_4 8 rfl rfl)
theorem dX3_init_105 : decode cX3_init 105 = .ok (.aload_n 0, 1) := dk_42 (dk_at dksX3_init_4 11 rfl rfl)
theorem dX3_init_106 : decode cX3_init 106 = .ok (.getfield 9, 3) := dk_180 0 9 (dk_at dksX3_init_4 12 rfl rfl)
theorem dX3_init_109 : decode cX3_init 109 = .ok (.bipush 22, 2) := dk_16 22 (dk_at dksX3_init_4 15 rfl rfl)
theorem dX3_init_111 : decode cX3_init 111 = .ok (.iload_n 1, 1) := dk_27 (dk_at dksX3_init_4 17 rfl rfl)
theorem dX3_init_112 : decode cX3_init 112 = .ok (.iadd, 1) := dk_96 (dk_at dksX3_init_4 18 rfl rfl)
theorem dX3_init_113 : decode cX3_init 113 = .ok (.iconst 5, 1) := dk_8 (dk_at dksX3_init_4 19 rfl rfl)
theorem dX3_init_114 : decode cX3_init 114 = .ok (.iastore, 1) := dk_79 (dk_at dksX3_init_4 20 rfl rfl)
theorem dX3_init_115 : decode cX3_init 115 = .ok (.iinc 1 1, 3) := dk_132 1 1 (dk_at dksX3_init_4 21 rfl rfl)
theorem dX3_init_118 : decode cX3_init 118 = .ok (.goto (-19), 3) := dk_167 255 237 (dk_at dksX3_init_5 0 rfl rfl)
theorem dX3_init_121 : decode cX3_init 121 = .ok (.return_, 1) := dk_177 (dk_at dksX3_init_5 3 rfl rfl)
abbrev cX3_thrown : ByteArray := prog_14_method_2_code
def yX3_thrown : MethodName := ⟨RX3, "thrown", "()I"⟩
theorem dX3_thrown_0 : decode cX3_thrown 0 = .ok (.aload_n 0, 1) := by decide +kernel
theorem dX3_thrown_1 : decode cX3_thrown 1 = .ok (.getfield 41, 3) := by decide +kernel
theorem dX3_thrown_4 : decode cX3_thrown 4 = .ok (.ireturn, 1) := by decide +kernel
abbrev cX3_height : ByteArray := prog_14_method_17_code
def yX3_height : MethodName := ⟨RX3, "height", "(I)I"⟩
def dkwX3_height_1 : List UInt8 := [42, 180, 0, 9, 16, 22, 27, 96, 46, 172]
abbrev dktX3_height_1 : List UInt8 := dkwX3_height_1 ++ []
def dkwX3_height_0 : List UInt8 := [42, 4, 27, 184, 0, 90, 154, 0, 7, 4, 167, 0, 4, 3, 182, 0, 94, 153, 0, 7, 3, 167, 0, 12]
abbrev dktX3_height_0 : List UInt8 := dkwX3_height_0 ++ dktX3_height_1
theorem dksX3_height_0 : cX3_height.data.toList.drop 0 = dktX3_height_0 := by decide +kernel
theorem dksX3_height_1 : cX3_height.data.toList.drop 24 = dktX3_height_1 := dk_seg dksX3_height_0 24 rfl rfl
theorem dX3_height_0 : decode cX3_height 0 = .ok (.aload_n 0, 1) := dk_42 (dk_at dksX3_height_0 0 rfl rfl)
theorem dX3_height_1 : decode cX3_height 1 = .ok (.iconst 1, 1) := dk_4 (dk_at dksX3_height_0 1 rfl rfl)
theorem dX3_height_2 : decode cX3_height 2 = .ok (.iload_n 1, 1) := dk_27 (dk_at dksX3_height_0 2 rfl rfl)
theorem dX3_height_3 : decode cX3_height 3 = .ok (.invokestatic 90, 3) := dk_184 0 90 (dk_at dksX3_height_0 3 rfl rfl)
theorem dX3_height_6 : decode cX3_height 6 = .ok (.ifCond .ne 7, 3) := dk_154 0 7 (dk_at dksX3_height_0 6 rfl rfl)
theorem dX3_height_9 : decode cX3_height 9 = .ok (.iconst 1, 1) := dk_4 (dk_at dksX3_height_0 9 rfl rfl)
theorem dX3_height_10 : decode cX3_height 10 = .ok (.goto 4, 3) := dk_167 0 4 (dk_at dksX3_height_0 10 rfl rfl)
theorem dX3_height_13 : decode cX3_height 13 = .ok (.iconst 0, 1) := dk_3 (dk_at dksX3_height_0 13 rfl rfl)
theorem dX3_height_14 : decode cX3_height 14 = .ok (.invokevirtual 94, 3) := dk_182 0 94 (dk_at dksX3_height_0 14 rfl rfl)
theorem dX3_height_17 : decode cX3_height 17 = .ok (.ifCond .eq 7, 3) := dk_153 0 7 (dk_at dksX3_height_0 17 rfl rfl)
theorem dX3_height_20 : decode cX3_height 20 = .ok (.iconst 0, 1) := dk_3 (dk_at dksX3_height_0 20 rfl rfl)
theorem dX3_height_21 : decode cX3_height 21 = .ok (.goto 12, 3) := dk_167 0 12 (dk_at dksX3_height_0 21 rfl rfl)
theorem dX3_height_24 : decode cX3_height 24 = .ok (.aload_n 0, 1) := dk_42 (dk_at dksX3_height_1 0 rfl rfl)
theorem dX3_height_25 : decode cX3_height 25 = .ok (.getfield 9, 3) := dk_180 0 9 (dk_at dksX3_height_1 1 rfl rfl)
theorem dX3_height_28 : decode cX3_height 28 = .ok (.bipush 22, 2) := dk_16 22 (dk_at dksX3_height_1 4 rfl rfl)
theorem dX3_height_30 : decode cX3_height 30 = .ok (.iload_n 1, 1) := dk_27 (dk_at dksX3_height_1 6 rfl rfl)
theorem dX3_height_31 : decode cX3_height 31 = .ok (.iadd, 1) := dk_96 (dk_at dksX3_height_1 7 rfl rfl)
theorem dX3_height_32 : decode cX3_height 32 = .ok (.iaload, 1) := dk_46 (dk_at dksX3_height_1 8 rfl rfl)
theorem dX3_height_33 : decode cX3_height 33 = .ok (.ireturn, 1) := dk_172 (dk_at dksX3_height_1 9 rfl rfl)
abbrev cX3_isHedge : ByteArray := prog_14_method_10_code
def yX3_isHedge : MethodName := ⟨RX3, "isHedge", "(I)Z"⟩
def dkwX3_isHedge_0 : List UInt8 := [26, 3, 16, 11, 184, 0, 68, 172]
abbrev dktX3_isHedge_0 : List UInt8 := dkwX3_isHedge_0 ++ []
theorem dksX3_isHedge_0 : cX3_isHedge.data.toList.drop 0 = dktX3_isHedge_0 := by decide +kernel
theorem dX3_isHedge_0 : decode cX3_isHedge 0 = .ok (.iload_n 0, 1) := dk_26 (dk_at dksX3_isHedge_0 0 rfl rfl)
theorem dX3_isHedge_1 : decode cX3_isHedge 1 = .ok (.iconst 0, 1) := dk_3 (dk_at dksX3_isHedge_0 1 rfl rfl)
theorem dX3_isHedge_2 : decode cX3_isHedge 2 = .ok (.bipush 11, 2) := dk_16 11 (dk_at dksX3_isHedge_0 2 rfl rfl)
theorem dX3_isHedge_4 : decode cX3_isHedge 4 = .ok (.invokestatic 68, 3) := dk_184 0 68 (dk_at dksX3_isHedge_0 4 rfl rfl)
theorem dX3_isHedge_7 : decode cX3_isHedge 7 = .ok (.ireturn, 1) := dk_172 (dk_at dksX3_isHedge_0 7 rfl rfl)
abbrev cX3_isBetween : ByteArray := prog_14_method_3_code
def yX3_isBetween : MethodName := ⟨RX3, "isBetween", "(III)Z"⟩
def dkwX3_isBetween_0 : List UInt8 := [26, 27, 161, 0, 12, 26, 28, 163, 0, 7, 4, 167, 0, 4, 3, 172]
abbrev dktX3_isBetween_0 : List UInt8 := dkwX3_isBetween_0 ++ []
theorem dksX3_isBetween_0 : cX3_isBetween.data.toList.drop 0 = dktX3_isBetween_0 := by decide +kernel
theorem dX3_isBetween_0 : decode cX3_isBetween 0 = .ok (.iload_n 0, 1) := dk_26 (dk_at dksX3_isBetween_0 0 rfl rfl)
theorem dX3_isBetween_1 : decode cX3_isBetween 1 = .ok (.iload_n 1, 1) := dk_27 (dk_at dksX3_isBetween_0 1 rfl rfl)
theorem dX3_isBetween_2 : decode cX3_isBetween 2 = .ok (.if_icmp .lt 12, 3) := dk_161 0 12 (dk_at dksX3_isBetween_0 2 rfl rfl)
theorem dX3_isBetween_5 : decode cX3_isBetween 5 = .ok (.iload_n 0, 1) := dk_26 (dk_at dksX3_isBetween_0 5 rfl rfl)
theorem dX3_isBetween_6 : decode cX3_isBetween 6 = .ok (.iload_n 2, 1) := dk_28 (dk_at dksX3_isBetween_0 6 rfl rfl)
theorem dX3_isBetween_7 : decode cX3_isBetween 7 = .ok (.if_icmp .gt 7, 3) := dk_163 0 7 (dk_at dksX3_isBetween_0 7 rfl rfl)
theorem dX3_isBetween_10 : decode cX3_isBetween 10 = .ok (.iconst 1, 1) := dk_4 (dk_at dksX3_isBetween_0 10 rfl rfl)
theorem dX3_isBetween_11 : decode cX3_isBetween 11 = .ok (.goto 4, 3) := dk_167 0 4 (dk_at dksX3_isBetween_0 11 rfl rfl)
theorem dX3_isBetween_14 : decode cX3_isBetween 14 = .ok (.iconst 0, 1) := dk_3 (dk_at dksX3_isBetween_0 14 rfl rfl)
theorem dX3_isBetween_15 : decode cX3_isBetween 15 = .ok (.ireturn, 1) := dk_172 (dk_at dksX3_isBetween_0 15 rfl rfl)
abbrev cX3_fails : ByteArray := prog_14_method_5_code
def yX3_fails : MethodName := ⟨RX3, "fails", "(IZ)Z"⟩
def dkwX3_fails_0 : List UInt8 := [42, 28, 153, 0, 7, 27, 167, 0, 4, 3, 181, 0, 41, 28, 172]
abbrev dktX3_fails_0 : List UInt8 := dkwX3_fails_0 ++ []
theorem dksX3_fails_0 : cX3_fails.data.toList.drop 0 = dktX3_fails_0 := by decide +kernel
theorem dX3_fails_0 : decode cX3_fails 0 = .ok (.aload_n 0, 1) := dk_42 (dk_at dksX3_fails_0 0 rfl rfl)
theorem dX3_fails_1 : decode cX3_fails 1 = .ok (.iload_n 2, 1) := dk_28 (dk_at dksX3_fails_0 1 rfl rfl)
theorem dX3_fails_2 : decode cX3_fails 2 = .ok (.ifCond .eq 7, 3) := dk_153 0 7 (dk_at dksX3_fails_0 2 rfl rfl)
theorem dX3_fails_5 : decode cX3_fails 5 = .ok (.iload_n 1, 1) := dk_27 (dk_at dksX3_fails_0 5 rfl rfl)
theorem dX3_fails_6 : decode cX3_fails 6 = .ok (.goto 4, 3) := dk_167 0 4 (dk_at dksX3_fails_0 6 rfl rfl)
theorem dX3_fails_9 : decode cX3_fails 9 = .ok (.iconst 0, 1) := dk_3 (dk_at dksX3_fails_0 9 rfl rfl)
theorem dX3_fails_10 : decode cX3_fails 10 = .ok (.putfield 41, 3) := dk_181 0 41 (dk_at dksX3_fails_0 10 rfl rfl)
theorem dX3_fails_13 : decode cX3_fails 13 = .ok (.iload_n 2, 1) := dk_28 (dk_at dksX3_fails_0 13 rfl rfl)
theorem dX3_fails_14 : decode cX3_fails 14 = .ok (.ireturn, 1) := dk_172 (dk_at dksX3_fails_0 14 rfl rfl)
abbrev cX3_cock : ByteArray := prog_14_method_25_code
def yX3_cock : MethodName := ⟨RX3, "cock", "(III)I"⟩
def dkwX3_cock_3 : List UInt8 := [182, 0, 118, 42, 180, 0, 9, 5, 92, 46, 16, 8, 100, 79, 42, 3, 27, 28, 29, 2, 182, 0, 121, 172]
abbrev dktX3_cock_3 : List UInt8 := dkwX3_cock_3 ++ []
def dkwX3_cock_2 : List UInt8 := [182, 0, 94, 154, 0, 17, 42, 6, 42, 16, 8, 182, 0, 115, 182, 0, 94, 153, 0, 5, 3, 172, 42]
abbrev dktX3_cock_2 : List UInt8 := dkwX3_cock_2 ++ dktX3_cock_3
def dkwX3_cock_1 : List UInt8 := [17, 0, 150, 184, 0, 68, 153, 0, 13, 29, 4, 16, 9, 184, 0, 68, 154, 0, 7, 4, 167, 0, 4, 3]
abbrev dktX3_cock_1 : List UInt8 := dkwX3_cock_1 ++ dktX3_cock_2
def dkwX3_cock_0 : List UInt8 := [42, 4, 27, 184, 0, 112, 154, 0, 7, 4, 167, 0, 4, 3, 182, 0, 94, 154, 0, 51, 42, 5, 28, 3]
abbrev dktX3_cock_0 : List UInt8 := dkwX3_cock_0 ++ dktX3_cock_1
theorem dksX3_cock_0 : cX3_cock.data.toList.drop 0 = dktX3_cock_0 := by decide +kernel
theorem dksX3_cock_1 : cX3_cock.data.toList.drop 24 = dktX3_cock_1 := dk_seg dksX3_cock_0 24 rfl rfl
theorem dksX3_cock_2 : cX3_cock.data.toList.drop 48 = dktX3_cock_2 := dk_seg dksX3_cock_1 24 rfl rfl
theorem dksX3_cock_3 : cX3_cock.data.toList.drop 71 = dktX3_cock_3 := dk_seg dksX3_cock_2 23 rfl rfl
theorem dX3_cock_0 : decode cX3_cock 0 = .ok (.aload_n 0, 1) := dk_42 (dk_at dksX3_cock_0 0 rfl rfl)
theorem dX3_cock_1 : decode cX3_cock 1 = .ok (.iconst 1, 1) := dk_4 (dk_at dksX3_cock_0 1 rfl rfl)
theorem dX3_cock_2 : decode cX3_cock 2 = .ok (.iload_n 1, 1) := dk_27 (dk_at dksX3_cock_0 2 rfl rfl)
theorem dX3_cock_3 : decode cX3_cock 3 = .ok (.invokestatic 112, 3) := dk_184 0 112 (dk_at dksX3_cock_0 3 rfl rfl)
theorem dX3_cock_6 : decode cX3_cock 6 = .ok (.ifCond .ne 7, 3) := dk_154 0 7 (dk_at dksX3_cock_0 6 rfl rfl)
theorem dX3_cock_9 : decode cX3_cock 9 = .ok (.iconst 1, 1) := dk_4 (dk_at dksX3_cock_0 9 rfl rfl)
theorem dX3_cock_10 : decode cX3_cock 10 = .ok (.goto 4, 3) := dk_167 0 4 (dk_at dksX3_cock_0 10 rfl rfl)
theorem dX3_cock_13 : decode cX3_cock 13 = .ok (.iconst 0, 1) := dk_3 (dk_at dksX3_cock_0 13 rfl rfl)
theorem dX3_cock_14 : decode cX3_cock 14 = .ok (.invokevirtual 94, 3) := dk_182 0 94 (dk_at dksX3_cock_0 14 rfl rfl)
theorem dX3_cock_17 : decode cX3_cock 17 = .ok (.ifCond .ne 51, 3) := dk_154 0 51 (dk_at dksX3_cock_0 17 rfl rfl)
theorem dX3_cock_20 : decode cX3_cock 20 = .ok (.aload_n 0, 1) := dk_42 (dk_at dksX3_cock_0 20 rfl rfl)
theorem dX3_cock_21 : decode cX3_cock 21 = .ok (.iconst 2, 1) := dk_5 (dk_at dksX3_cock_0 21 rfl rfl)
theorem dX3_cock_22 : decode cX3_cock 22 = .ok (.iload_n 2, 1) := dk_28 (dk_at dksX3_cock_0 22 rfl rfl)
theorem dX3_cock_23 : decode cX3_cock 23 = .ok (.iconst 0, 1) := dk_3 (dk_at dksX3_cock_0 23 rfl rfl)
theorem dX3_cock_24 : decode cX3_cock 24 = .ok (.sipush 150, 3) := dk_17 0 150 (dk_at dksX3_cock_1 0 rfl rfl)
theorem dX3_cock_27 : decode cX3_cock 27 = .ok (.invokestatic 68, 3) := dk_184 0 68 (dk_at dksX3_cock_1 3 rfl rfl)
theorem dX3_cock_30 : decode cX3_cock 30 = .ok (.ifCond .eq 13, 3) := dk_153 0 13 (dk_at dksX3_cock_1 6 rfl rfl)
theorem dX3_cock_33 : decode cX3_cock 33 = .ok (.iload_n 3, 1) := dk_29 (dk_at dksX3_cock_1 9 rfl rfl)
theorem dX3_cock_34 : decode cX3_cock 34 = .ok (.iconst 1, 1) := dk_4 (dk_at dksX3_cock_1 10 rfl rfl)
theorem dX3_cock_35 : decode cX3_cock 35 = .ok (.bipush 9, 2) := dk_16 9 (dk_at dksX3_cock_1 11 rfl rfl)
theorem dX3_cock_37 : decode cX3_cock 37 = .ok (.invokestatic 68, 3) := dk_184 0 68 (dk_at dksX3_cock_1 13 rfl rfl)
theorem dX3_cock_40 : decode cX3_cock 40 = .ok (.ifCond .ne 7, 3) := dk_154 0 7 (dk_at dksX3_cock_1 16 rfl rfl)
theorem dX3_cock_43 : decode cX3_cock 43 = .ok (.iconst 1, 1) := dk_4 (dk_at dksX3_cock_1 19 rfl rfl)
theorem dX3_cock_44 : decode cX3_cock 44 = .ok (.goto 4, 3) := dk_167 0 4 (dk_at dksX3_cock_1 20 rfl rfl)
theorem dX3_cock_47 : decode cX3_cock 47 = .ok (.iconst 0, 1) := dk_3 (dk_at dksX3_cock_1 23 rfl rfl)
theorem dX3_cock_48 : decode cX3_cock 48 = .ok (.invokevirtual 94, 3) := dk_182 0 94 (dk_at dksX3_cock_2 0 rfl rfl)
theorem dX3_cock_51 : decode cX3_cock 51 = .ok (.ifCond .ne 17, 3) := dk_154 0 17 (dk_at dksX3_cock_2 3 rfl rfl)
theorem dX3_cock_54 : decode cX3_cock 54 = .ok (.aload_n 0, 1) := dk_42 (dk_at dksX3_cock_2 6 rfl rfl)
theorem dX3_cock_55 : decode cX3_cock 55 = .ok (.iconst 3, 1) := dk_6 (dk_at dksX3_cock_2 7 rfl rfl)
theorem dX3_cock_56 : decode cX3_cock 56 = .ok (.aload_n 0, 1) := dk_42 (dk_at dksX3_cock_2 8 rfl rfl)
theorem dX3_cock_57 : decode cX3_cock 57 = .ok (.bipush 8, 2) := dk_16 8 (dk_at dksX3_cock_2 9 rfl rfl)
theorem dX3_cock_59 : decode cX3_cock 59 = .ok (.invokevirtual 115, 3) := dk_182 0 115 (dk_at dksX3_cock_2 11 rfl rfl)
theorem dX3_cock_62 : decode cX3_cock 62 = .ok (.invokevirtual 94, 3) := dk_182 0 94 (dk_at dksX3_cock_2 14 rfl rfl)
theorem dX3_cock_65 : decode cX3_cock 65 = .ok (.ifCond .eq 5, 3) := dk_153 0 5 (dk_at dksX3_cock_2 17 rfl rfl)
theorem dX3_cock_68 : decode cX3_cock 68 = .ok (.iconst 0, 1) := dk_3 (dk_at dksX3_cock_2 20 rfl rfl)
theorem dX3_cock_69 : decode cX3_cock 69 = .ok (.ireturn, 1) := dk_172 (dk_at dksX3_cock_2 21 rfl rfl)
theorem dX3_cock_70 : decode cX3_cock 70 = .ok (.aload_n 0, 1) := dk_42 (dk_at dksX3_cock_2 22 rfl rfl)
theorem dX3_cock_71 : decode cX3_cock 71 = .ok (.invokevirtual 118, 3) := dk_182 0 118 (dk_at dksX3_cock_3 0 rfl rfl)
theorem dX3_cock_74 : decode cX3_cock 74 = .ok (.aload_n 0, 1) := dk_42 (dk_at dksX3_cock_3 3 rfl rfl)
theorem dX3_cock_75 : decode cX3_cock 75 = .ok (.getfield 9, 3) := dk_180 0 9 (dk_at dksX3_cock_3 4 rfl rfl)
theorem dX3_cock_78 : decode cX3_cock 78 = .ok (.iconst 2, 1) := dk_5 (dk_at dksX3_cock_3 7 rfl rfl)
theorem dX3_cock_79 : decode cX3_cock 79 = .ok (.dup2, 1) := dk_92 (dk_at dksX3_cock_3 8 rfl rfl)
theorem dX3_cock_80 : decode cX3_cock 80 = .ok (.iaload, 1) := dk_46 (dk_at dksX3_cock_3 9 rfl rfl)
theorem dX3_cock_81 : decode cX3_cock 81 = .ok (.bipush 8, 2) := dk_16 8 (dk_at dksX3_cock_3 10 rfl rfl)
theorem dX3_cock_83 : decode cX3_cock 83 = .ok (.isub, 1) := dk_100 (dk_at dksX3_cock_3 12 rfl rfl)
theorem dX3_cock_84 : decode cX3_cock 84 = .ok (.iastore, 1) := dk_79 (dk_at dksX3_cock_3 13 rfl rfl)
theorem dX3_cock_85 : decode cX3_cock 85 = .ok (.aload_n 0, 1) := dk_42 (dk_at dksX3_cock_3 14 rfl rfl)
theorem dX3_cock_86 : decode cX3_cock 86 = .ok (.iconst 0, 1) := dk_3 (dk_at dksX3_cock_3 15 rfl rfl)
theorem dX3_cock_87 : decode cX3_cock 87 = .ok (.iload_n 1, 1) := dk_27 (dk_at dksX3_cock_3 16 rfl rfl)
theorem dX3_cock_88 : decode cX3_cock 88 = .ok (.iload_n 2, 1) := dk_28 (dk_at dksX3_cock_3 17 rfl rfl)
theorem dX3_cock_89 : decode cX3_cock 89 = .ok (.iload_n 3, 1) := dk_29 (dk_at dksX3_cock_3 18 rfl rfl)
theorem dX3_cock_90 : decode cX3_cock 90 = .ok (.iconst (-1), 1) := dk_2 (dk_at dksX3_cock_3 19 rfl rfl)
theorem dX3_cock_91 : decode cX3_cock 91 = .ok (.invokevirtual 121, 3) := dk_182 0 121 (dk_at dksX3_cock_3 20 rfl rfl)
theorem dX3_cock_94 : decode cX3_cock 94 = .ok (.ireturn, 1) := dk_172 (dk_at dksX3_cock_3 23 rfl rfl)
abbrev cX3_isLawn : ByteArray := prog_14_method_9_code
def yX3_isLawn : MethodName := ⟨RX3, "isLawn", "(I)Z"⟩
def dkwX3_isLawn_0 : List UInt8 := [26, 3, 16, 8, 184, 0, 68, 172]
abbrev dktX3_isLawn_0 : List UInt8 := dkwX3_isLawn_0 ++ []
theorem dksX3_isLawn_0 : cX3_isLawn.data.toList.drop 0 = dktX3_isLawn_0 := by decide +kernel
theorem dX3_isLawn_0 : decode cX3_isLawn 0 = .ok (.iload_n 0, 1) := dk_26 (dk_at dksX3_isLawn_0 0 rfl rfl)
theorem dX3_isLawn_1 : decode cX3_isLawn 1 = .ok (.iconst 0, 1) := dk_3 (dk_at dksX3_isLawn_0 1 rfl rfl)
theorem dX3_isLawn_2 : decode cX3_isLawn 2 = .ok (.bipush 8, 2) := dk_16 8 (dk_at dksX3_isLawn_0 2 rfl rfl)
theorem dX3_isLawn_4 : decode cX3_isLawn 4 = .ok (.invokestatic 68, 3) := dk_184 0 68 (dk_at dksX3_isLawn_0 4 rfl rfl)
theorem dX3_isLawn_7 : decode cX3_isLawn 7 = .ok (.ireturn, 1) := dk_172 (dk_at dksX3_isLawn_0 7 rfl rfl)
abbrev cX3_isBuyRefused : ByteArray := prog_14_method_24_code
def yX3_isBuyRefused : MethodName := ⟨RX3, "isBuyRefused", "(I)Z"⟩
def dkwX3_isBuyRefused_2 : List UInt8 := [180, 0, 9, 5, 46, 100, 182, 0, 108, 153, 0, 7, 4, 167, 0, 4, 3, 172]
abbrev dktX3_isBuyRefused_2 : List UInt8 := dkwX3_isBuyRefused_2 ++ []
def dkwX3_isBuyRefused_1 : List UInt8 := [154, 0, 35, 42, 42, 180, 0, 9, 5, 46, 27, 162, 0, 7, 4, 167, 0, 4, 3, 16, 10, 27, 42]
abbrev dktX3_isBuyRefused_1 : List UInt8 := dkwX3_isBuyRefused_1 ++ dktX3_isBuyRefused_2
def dkwX3_isBuyRefused_0 : List UInt8 := [42, 42, 180, 0, 9, 16, 10, 46, 16, 12, 160, 0, 7, 4, 167, 0, 4, 3, 4, 16, 12, 182, 0, 108]
abbrev dktX3_isBuyRefused_0 : List UInt8 := dkwX3_isBuyRefused_0 ++ dktX3_isBuyRefused_1
theorem dksX3_isBuyRefused_0 : cX3_isBuyRefused.data.toList.drop 0 = dktX3_isBuyRefused_0 := by decide +kernel
theorem dksX3_isBuyRefused_1 : cX3_isBuyRefused.data.toList.drop 24 = dktX3_isBuyRefused_1 := dk_seg dksX3_isBuyRefused_0 24 rfl rfl
theorem dksX3_isBuyRefused_2 : cX3_isBuyRefused.data.toList.drop 47 = dktX3_isBuyRefused_2 := dk_seg dksX3_isBuyRefused_1 23 rfl rfl
theorem dX3_isBuyRefused_0 : decode cX3_isBuyRefused 0 = .ok (.aload_n 0, 1) := dk_42 (dk_at dksX3_isBuyRefused_0 0 rfl rfl)
theorem dX3_isBuyRefused_1 : decode cX3_isBuyRefused 1 = .ok (.aload_n 0, 1) := dk_42 (dk_at dksX3_isBuyRefused_0 1 rfl rfl)
theorem dX3_isBuyRefused_2 : decode cX3_isBuyRefused 2 = .ok (.getfield 9, 3) := dk_180 0 9 (dk_at dksX3_isBuyRefused_0 2 rfl rfl)
theorem dX3_isBuyRefused_5 : decode cX3_isBuyRefused 5 = .ok (.bipush 10, 2) := dk_16 10 (dk_at dksX3_isBuyRefused_0 5 rfl rfl)
theorem dX3_isBuyRefused_7 : decode cX3_isBuyRefused 7 = .ok (.iaload, 1) := dk_46 (dk_at dksX3_isBuyRefused_0 7 rfl rfl)
theorem dX3_isBuyRefused_8 : decode cX3_isBuyRefused 8 = .ok (.bipush 12, 2) := dk_16 12 (dk_at dksX3_isBuyRefused_0 8 rfl rfl)
theorem dX3_isBuyRefused_10 : decode cX3_isBuyRefused 10 = .ok (.if_icmp .ne 7, 3) := dk_160 0 7 (dk_at dksX3_isBuyRefused_0 10 rfl rfl)
theorem dX3_isBuyRefused_13 : decode cX3_isBuyRefused 13 = .ok (.iconst 1, 1) := dk_4 (dk_at dksX3_isBuyRefused_0 13 rfl rfl)
theorem dX3_isBuyRefused_14 : decode cX3_isBuyRefused 14 = .ok (.goto 4, 3) := dk_167 0 4 (dk_at dksX3_isBuyRefused_0 14 rfl rfl)
theorem dX3_isBuyRefused_17 : decode cX3_isBuyRefused 17 = .ok (.iconst 0, 1) := dk_3 (dk_at dksX3_isBuyRefused_0 17 rfl rfl)
theorem dX3_isBuyRefused_18 : decode cX3_isBuyRefused 18 = .ok (.iconst 1, 1) := dk_4 (dk_at dksX3_isBuyRefused_0 18 rfl rfl)
theorem dX3_isBuyRefused_19 : decode cX3_isBuyRefused 19 = .ok (.bipush 12, 2) := dk_16 12 (dk_at dksX3_isBuyRefused_0 19 rfl rfl)
theorem dX3_isBuyRefused_21 : decode cX3_isBuyRefused 21 = .ok (.invokevirtual 108, 3) := dk_182 0 108 (dk_at dksX3_isBuyRefused_0 21 rfl rfl)
theorem dX3_isBuyRefused_24 : decode cX3_isBuyRefused 24 = .ok (.ifCond .ne 35, 3) := dk_154 0 35 (dk_at dksX3_isBuyRefused_1 0 rfl rfl)
theorem dX3_isBuyRefused_27 : decode cX3_isBuyRefused 27 = .ok (.aload_n 0, 1) := dk_42 (dk_at dksX3_isBuyRefused_1 3 rfl rfl)
theorem dX3_isBuyRefused_28 : decode cX3_isBuyRefused 28 = .ok (.aload_n 0, 1) := dk_42 (dk_at dksX3_isBuyRefused_1 4 rfl rfl)
theorem dX3_isBuyRefused_29 : decode cX3_isBuyRefused 29 = .ok (.getfield 9, 3) := dk_180 0 9 (dk_at dksX3_isBuyRefused_1 5 rfl rfl)
theorem dX3_isBuyRefused_32 : decode cX3_isBuyRefused 32 = .ok (.iconst 2, 1) := dk_5 (dk_at dksX3_isBuyRefused_1 8 rfl rfl)
theorem dX3_isBuyRefused_33 : decode cX3_isBuyRefused 33 = .ok (.iaload, 1) := dk_46 (dk_at dksX3_isBuyRefused_1 9 rfl rfl)
theorem dX3_isBuyRefused_34 : decode cX3_isBuyRefused 34 = .ok (.iload_n 1, 1) := dk_27 (dk_at dksX3_isBuyRefused_1 10 rfl rfl)
theorem dX3_isBuyRefused_35 : decode cX3_isBuyRefused 35 = .ok (.if_icmp .ge 7, 3) := dk_162 0 7 (dk_at dksX3_isBuyRefused_1 11 rfl rfl)
theorem dX3_isBuyRefused_38 : decode cX3_isBuyRefused 38 = .ok (.iconst 1, 1) := dk_4 (dk_at dksX3_isBuyRefused_1 14 rfl rfl)
theorem dX3_isBuyRefused_39 : decode cX3_isBuyRefused 39 = .ok (.goto 4, 3) := dk_167 0 4 (dk_at dksX3_isBuyRefused_1 15 rfl rfl)
theorem dX3_isBuyRefused_42 : decode cX3_isBuyRefused 42 = .ok (.iconst 0, 1) := dk_3 (dk_at dksX3_isBuyRefused_1 18 rfl rfl)
theorem dX3_isBuyRefused_43 : decode cX3_isBuyRefused 43 = .ok (.bipush 10, 2) := dk_16 10 (dk_at dksX3_isBuyRefused_1 19 rfl rfl)
theorem dX3_isBuyRefused_45 : decode cX3_isBuyRefused 45 = .ok (.iload_n 1, 1) := dk_27 (dk_at dksX3_isBuyRefused_1 21 rfl rfl)
theorem dX3_isBuyRefused_46 : decode cX3_isBuyRefused 46 = .ok (.aload_n 0, 1) := dk_42 (dk_at dksX3_isBuyRefused_1 22 rfl rfl)
theorem dX3_isBuyRefused_47 : decode cX3_isBuyRefused 47 = .ok (.getfield 9, 3) := dk_180 0 9 (dk_at dksX3_isBuyRefused_2 0 rfl rfl)
theorem dX3_isBuyRefused_50 : decode cX3_isBuyRefused 50 = .ok (.iconst 2, 1) := dk_5 (dk_at dksX3_isBuyRefused_2 3 rfl rfl)
theorem dX3_isBuyRefused_51 : decode cX3_isBuyRefused 51 = .ok (.iaload, 1) := dk_46 (dk_at dksX3_isBuyRefused_2 4 rfl rfl)
theorem dX3_isBuyRefused_52 : decode cX3_isBuyRefused 52 = .ok (.isub, 1) := dk_100 (dk_at dksX3_isBuyRefused_2 5 rfl rfl)
theorem dX3_isBuyRefused_53 : decode cX3_isBuyRefused 53 = .ok (.invokevirtual 108, 3) := dk_182 0 108 (dk_at dksX3_isBuyRefused_2 6 rfl rfl)
theorem dX3_isBuyRefused_56 : decode cX3_isBuyRefused 56 = .ok (.ifCond .eq 7, 3) := dk_153 0 7 (dk_at dksX3_isBuyRefused_2 9 rfl rfl)
theorem dX3_isBuyRefused_59 : decode cX3_isBuyRefused 59 = .ok (.iconst 1, 1) := dk_4 (dk_at dksX3_isBuyRefused_2 12 rfl rfl)
theorem dX3_isBuyRefused_60 : decode cX3_isBuyRefused 60 = .ok (.goto 4, 3) := dk_167 0 4 (dk_at dksX3_isBuyRefused_2 13 rfl rfl)
theorem dX3_isBuyRefused_63 : decode cX3_isBuyRefused 63 = .ok (.iconst 0, 1) := dk_3 (dk_at dksX3_isBuyRefused_2 16 rfl rfl)
theorem dX3_isBuyRefused_64 : decode cX3_isBuyRefused 64 = .ok (.ireturn, 1) := dk_172 (dk_at dksX3_isBuyRefused_2 17 rfl rfl)
abbrev cX3_refuse : ByteArray := prog_14_method_6_code
def yX3_refuse : MethodName := ⟨RX3, "refuse", "(ZII)Z"⟩
def dkwX3_refuse_0 : List UInt8 := [27, 153, 0, 18, 42, 28, 181, 0, 44, 42, 29, 181, 0, 47, 42, 3, 181, 0, 50, 27, 172]
abbrev dktX3_refuse_0 : List UInt8 := dkwX3_refuse_0 ++ []
theorem dksX3_refuse_0 : cX3_refuse.data.toList.drop 0 = dktX3_refuse_0 := by decide +kernel
theorem dX3_refuse_0 : decode cX3_refuse 0 = .ok (.iload_n 1, 1) := dk_27 (dk_at dksX3_refuse_0 0 rfl rfl)
theorem dX3_refuse_1 : decode cX3_refuse 1 = .ok (.ifCond .eq 18, 3) := dk_153 0 18 (dk_at dksX3_refuse_0 1 rfl rfl)
theorem dX3_refuse_4 : decode cX3_refuse 4 = .ok (.aload_n 0, 1) := dk_42 (dk_at dksX3_refuse_0 4 rfl rfl)
theorem dX3_refuse_5 : decode cX3_refuse 5 = .ok (.iload_n 2, 1) := dk_28 (dk_at dksX3_refuse_0 5 rfl rfl)
theorem dX3_refuse_6 : decode cX3_refuse 6 = .ok (.putfield 44, 3) := dk_181 0 44 (dk_at dksX3_refuse_0 6 rfl rfl)
theorem dX3_refuse_9 : decode cX3_refuse 9 = .ok (.aload_n 0, 1) := dk_42 (dk_at dksX3_refuse_0 9 rfl rfl)
theorem dX3_refuse_10 : decode cX3_refuse 10 = .ok (.iload_n 3, 1) := dk_29 (dk_at dksX3_refuse_0 10 rfl rfl)
theorem dX3_refuse_11 : decode cX3_refuse 11 = .ok (.putfield 47, 3) := dk_181 0 47 (dk_at dksX3_refuse_0 11 rfl rfl)
theorem dX3_refuse_14 : decode cX3_refuse 14 = .ok (.aload_n 0, 1) := dk_42 (dk_at dksX3_refuse_0 14 rfl rfl)
theorem dX3_refuse_15 : decode cX3_refuse 15 = .ok (.iconst 0, 1) := dk_3 (dk_at dksX3_refuse_0 15 rfl rfl)
theorem dX3_refuse_16 : decode cX3_refuse 16 = .ok (.putfield 50, 3) := dk_181 0 50 (dk_at dksX3_refuse_0 16 rfl rfl)
theorem dX3_refuse_19 : decode cX3_refuse 19 = .ok (.iload_n 1, 1) := dk_27 (dk_at dksX3_refuse_0 19 rfl rfl)
theorem dX3_refuse_20 : decode cX3_refuse 20 = .ok (.ireturn, 1) := dk_172 (dk_at dksX3_refuse_0 20 rfl rfl)
abbrev cX3_change : ByteArray := prog_14_method_8_code
def yX3_change : MethodName := ⟨RX3, "change", "()V"⟩
def dkwX3_change_0 : List UInt8 := [42, 180, 0, 60, 154, 0, 11, 42, 42, 180, 0, 9, 182, 0, 64, 177]
abbrev dktX3_change_0 : List UInt8 := dkwX3_change_0 ++ []
theorem dksX3_change_0 : cX3_change.data.toList.drop 0 = dktX3_change_0 := by decide +kernel
theorem dX3_change_0 : decode cX3_change 0 = .ok (.aload_n 0, 1) := dk_42 (dk_at dksX3_change_0 0 rfl rfl)
theorem dX3_change_1 : decode cX3_change 1 = .ok (.getfield 60, 3) := dk_180 0 60 (dk_at dksX3_change_0 1 rfl rfl)
theorem dX3_change_4 : decode cX3_change 4 = .ok (.ifCond .ne 11, 3) := dk_154 0 11 (dk_at dksX3_change_0 4 rfl rfl)
theorem dX3_change_7 : decode cX3_change 7 = .ok (.aload_n 0, 1) := dk_42 (dk_at dksX3_change_0 7 rfl rfl)
theorem dX3_change_8 : decode cX3_change 8 = .ok (.aload_n 0, 1) := dk_42 (dk_at dksX3_change_0 8 rfl rfl)
theorem dX3_change_9 : decode cX3_change 9 = .ok (.getfield 9, 3) := dk_180 0 9 (dk_at dksX3_change_0 9 rfl rfl)
theorem dX3_change_12 : decode cX3_change 12 = .ok (.invokevirtual 64, 3) := dk_182 0 64 (dk_at dksX3_change_0 12 rfl rfl)
theorem dX3_change_15 : decode cX3_change 15 = .ok (.return_, 1) := dk_177 (dk_at dksX3_change_0 15 rfl rfl)
abbrev cX3_remember : ByteArray := prog_14_method_7_code
def yX3_remember : MethodName := ⟨RX3, "remember", "([I)V"⟩
def dkwX3_remember_3 : List UInt8 := [4, 96, 181, 0, 53, 177]
abbrev dktX3_remember_3 : List UInt8 := dkwX3_remember_3 ++ []
def dkwX3_remember_2 : List UInt8 := [132, 2, 1, 167, 255, 228, 43, 42, 180, 0, 24, 42, 180, 0, 53, 50, 184, 0, 56, 42, 89, 180, 0, 53]
abbrev dktX3_remember_2 : List UInt8 := dkwX3_remember_2 ++ dktX3_remember_3
def dkwX3_remember_1 : List UInt8 := [180, 0, 53, 162, 0, 26, 42, 180, 0, 24, 28, 4, 96, 50, 42, 180, 0, 24, 28, 50, 184, 0, 56]
abbrev dktX3_remember_1 : List UInt8 := dkwX3_remember_1 ++ dktX3_remember_2
def dkwX3_remember_0 : List UInt8 := [42, 180, 0, 53, 16, 8, 160, 0, 46, 42, 89, 180, 0, 53, 4, 100, 181, 0, 53, 3, 61, 28, 42]
abbrev dktX3_remember_0 : List UInt8 := dkwX3_remember_0 ++ dktX3_remember_1
theorem dksX3_remember_0 : cX3_remember.data.toList.drop 0 = dktX3_remember_0 := by decide +kernel
theorem dksX3_remember_1 : cX3_remember.data.toList.drop 23 = dktX3_remember_1 := dk_seg dksX3_remember_0 23 rfl rfl
theorem dksX3_remember_2 : cX3_remember.data.toList.drop 46 = dktX3_remember_2 := dk_seg dksX3_remember_1 23 rfl rfl
theorem dksX3_remember_3 : cX3_remember.data.toList.drop 70 = dktX3_remember_3 := dk_seg dksX3_remember_2 24 rfl rfl
theorem dX3_remember_0 : decode cX3_remember 0 = .ok (.aload_n 0, 1) := dk_42 (dk_at dksX3_remember_0 0 rfl rfl)
theorem dX3_remember_1 : decode cX3_remember 1 = .ok (.getfield 53, 3) := dk_180 0 53 (dk_at dksX3_remember_0 1 rfl rfl)
theorem dX3_remember_4 : decode cX3_remember 4 = .ok (.bipush 8, 2) := dk_16 8 (dk_at dksX3_remember_0 4 rfl rfl)
theorem dX3_remember_6 : decode cX3_remember 6 = .ok (.if_icmp .ne 46, 3) := dk_160 0 46 (dk_at dksX3_remember_0 6 rfl rfl)
theorem dX3_remember_9 : decode cX3_remember 9 = .ok (.aload_n 0, 1) := dk_42 (dk_at dksX3_remember_0 9 rfl rfl)
theorem dX3_remember_10 : decode cX3_remember 10 = .ok (.dup, 1) := dk_89 (dk_at dksX3_remember_0 10 rfl rfl)
theorem dX3_remember_11 : decode cX3_remember 11 = .ok (.getfield 53, 3) := dk_180 0 53 (dk_at dksX3_remember_0 11 rfl rfl)
theorem dX3_remember_14 : decode cX3_remember 14 = .ok (.iconst 1, 1) := dk_4 (dk_at dksX3_remember_0 14 rfl rfl)
theorem dX3_remember_15 : decode cX3_remember 15 = .ok (.isub, 1) := dk_100 (dk_at dksX3_remember_0 15 rfl rfl)
theorem dX3_remember_16 : decode cX3_remember 16 = .ok (.putfield 53, 3) := dk_181 0 53 (dk_at dksX3_remember_0 16 rfl rfl)
theorem dX3_remember_19 : decode cX3_remember 19 = .ok (.iconst 0, 1) := dk_3 (dk_at dksX3_remember_0 19 rfl rfl)
theorem dX3_remember_20 : decode cX3_remember 20 = .ok (.istore_n 2, 1) := dk_61 (dk_at dksX3_remember_0 20 rfl rfl)
theorem dX3_remember_21 : decode cX3_remember 21 = .ok (.iload_n 2, 1) := dk_28 (dk_at dksX3_remember_0 21 rfl rfl)
theorem dX3_remember_22 : decode cX3_remember 22 = .ok (.aload_n 0, 1) := dk_42 (dk_at dksX3_remember_0 22 rfl rfl)
theorem dX3_remember_23 : decode cX3_remember 23 = .ok (.getfield 53, 3) := dk_180 0 53 (dk_at dksX3_remember_1 0 rfl rfl)
theorem dX3_remember_26 : decode cX3_remember 26 = .ok (.if_icmp .ge 26, 3) := dk_162 0 26 (dk_at dksX3_remember_1 3 rfl rfl)
theorem dX3_remember_29 : decode cX3_remember 29 = .ok (.aload_n 0, 1) := dk_42 (dk_at dksX3_remember_1 6 rfl rfl)
theorem dX3_remember_30 : decode cX3_remember 30 = .ok (.getfield 24, 3) := dk_180 0 24 (dk_at dksX3_remember_1 7 rfl rfl)
theorem dX3_remember_33 : decode cX3_remember 33 = .ok (.iload_n 2, 1) := dk_28 (dk_at dksX3_remember_1 10 rfl rfl)
theorem dX3_remember_34 : decode cX3_remember 34 = .ok (.iconst 1, 1) := dk_4 (dk_at dksX3_remember_1 11 rfl rfl)
theorem dX3_remember_35 : decode cX3_remember 35 = .ok (.iadd, 1) := dk_96 (dk_at dksX3_remember_1 12 rfl rfl)
theorem dX3_remember_36 : decode cX3_remember 36 = .ok (.aaload, 1) := dk_50 (dk_at dksX3_remember_1 13 rfl rfl)
theorem dX3_remember_37 : decode cX3_remember 37 = .ok (.aload_n 0, 1) := dk_42 (dk_at dksX3_remember_1 14 rfl rfl)
theorem dX3_remember_38 : decode cX3_remember 38 = .ok (.getfield 24, 3) := dk_180 0 24 (dk_at dksX3_remember_1 15 rfl rfl)
theorem dX3_remember_41 : decode cX3_remember 41 = .ok (.iload_n 2, 1) := dk_28 (dk_at dksX3_remember_1 18 rfl rfl)
theorem dX3_remember_42 : decode cX3_remember 42 = .ok (.aaload, 1) := dk_50 (dk_at dksX3_remember_1 19 rfl rfl)
theorem dX3_remember_43 : decode cX3_remember 43 = .ok (.invokestatic 56, 3) := dk_184 0 56 (dk_at dksX3_remember_1 20 rfl rfl)
theorem dX3_remember_46 : decode cX3_remember 46 = .ok (.iinc 2 1, 3) := dk_132 2 1 (dk_at dksX3_remember_2 0 rfl rfl)
theorem dX3_remember_49 : decode cX3_remember 49 = .ok (.goto (-28), 3) := dk_167 255 228 (dk_at dksX3_remember_2 3 rfl rfl)
theorem dX3_remember_52 : decode cX3_remember 52 = .ok (.aload_n 1, 1) := dk_43 (dk_at dksX3_remember_2 6 rfl rfl)
theorem dX3_remember_53 : decode cX3_remember 53 = .ok (.aload_n 0, 1) := dk_42 (dk_at dksX3_remember_2 7 rfl rfl)
theorem dX3_remember_54 : decode cX3_remember 54 = .ok (.getfield 24, 3) := dk_180 0 24 (dk_at dksX3_remember_2 8 rfl rfl)
theorem dX3_remember_57 : decode cX3_remember 57 = .ok (.aload_n 0, 1) := dk_42 (dk_at dksX3_remember_2 11 rfl rfl)
theorem dX3_remember_58 : decode cX3_remember 58 = .ok (.getfield 53, 3) := dk_180 0 53 (dk_at dksX3_remember_2 12 rfl rfl)
theorem dX3_remember_61 : decode cX3_remember 61 = .ok (.aaload, 1) := dk_50 (dk_at dksX3_remember_2 15 rfl rfl)
theorem dX3_remember_62 : decode cX3_remember 62 = .ok (.invokestatic 56, 3) := dk_184 0 56 (dk_at dksX3_remember_2 16 rfl rfl)
theorem dX3_remember_65 : decode cX3_remember 65 = .ok (.aload_n 0, 1) := dk_42 (dk_at dksX3_remember_2 19 rfl rfl)
theorem dX3_remember_66 : decode cX3_remember 66 = .ok (.dup, 1) := dk_89 (dk_at dksX3_remember_2 20 rfl rfl)
theorem dX3_remember_67 : decode cX3_remember 67 = .ok (.getfield 53, 3) := dk_180 0 53 (dk_at dksX3_remember_2 21 rfl rfl)
theorem dX3_remember_70 : decode cX3_remember 70 = .ok (.iconst 1, 1) := dk_4 (dk_at dksX3_remember_3 0 rfl rfl)
theorem dX3_remember_71 : decode cX3_remember 71 = .ok (.iadd, 1) := dk_96 (dk_at dksX3_remember_3 1 rfl rfl)
theorem dX3_remember_72 : decode cX3_remember 72 = .ok (.putfield 53, 3) := dk_181 0 53 (dk_at dksX3_remember_3 2 rfl rfl)
theorem dX3_remember_75 : decode cX3_remember 75 = .ok (.return_, 1) := dk_177 (dk_at dksX3_remember_3 5 rfl rfl)
abbrev cX3_copyRow : ByteArray := prog_14_method_4_code
def yX3_copyRow : MethodName := ⟨RX3, "copyRow", "([I[I)V"⟩
def dkwX3_copyRow_0 : List UInt8 := [3, 61, 28, 17, 0, 130, 162, 0, 15, 43, 28, 42, 28, 46, 79, 132, 2, 1, 167, 255, 240, 177]
abbrev dktX3_copyRow_0 : List UInt8 := dkwX3_copyRow_0 ++ []
theorem dksX3_copyRow_0 : cX3_copyRow.data.toList.drop 0 = dktX3_copyRow_0 := by decide +kernel
theorem dX3_copyRow_0 : decode cX3_copyRow 0 = .ok (.iconst 0, 1) := dk_3 (dk_at dksX3_copyRow_0 0 rfl rfl)
theorem dX3_copyRow_1 : decode cX3_copyRow 1 = .ok (.istore_n 2, 1) := dk_61 (dk_at dksX3_copyRow_0 1 rfl rfl)
theorem dX3_copyRow_2 : decode cX3_copyRow 2 = .ok (.iload_n 2, 1) := dk_28 (dk_at dksX3_copyRow_0 2 rfl rfl)
theorem dX3_copyRow_3 : decode cX3_copyRow 3 = .ok (.sipush 130, 3) := dk_17 0 130 (dk_at dksX3_copyRow_0 3 rfl rfl)
theorem dX3_copyRow_6 : decode cX3_copyRow 6 = .ok (.if_icmp .ge 15, 3) := dk_162 0 15 (dk_at dksX3_copyRow_0 6 rfl rfl)
theorem dX3_copyRow_9 : decode cX3_copyRow 9 = .ok (.aload_n 1, 1) := dk_43 (dk_at dksX3_copyRow_0 9 rfl rfl)
theorem dX3_copyRow_10 : decode cX3_copyRow 10 = .ok (.iload_n 2, 1) := dk_28 (dk_at dksX3_copyRow_0 10 rfl rfl)
theorem dX3_copyRow_11 : decode cX3_copyRow 11 = .ok (.aload_n 0, 1) := dk_42 (dk_at dksX3_copyRow_0 11 rfl rfl)
theorem dX3_copyRow_12 : decode cX3_copyRow 12 = .ok (.iload_n 2, 1) := dk_28 (dk_at dksX3_copyRow_0 12 rfl rfl)
theorem dX3_copyRow_13 : decode cX3_copyRow 13 = .ok (.iaload, 1) := dk_46 (dk_at dksX3_copyRow_0 13 rfl rfl)
theorem dX3_copyRow_14 : decode cX3_copyRow 14 = .ok (.iastore, 1) := dk_79 (dk_at dksX3_copyRow_0 14 rfl rfl)
theorem dX3_copyRow_15 : decode cX3_copyRow 15 = .ok (.iinc 2 1, 3) := dk_132 2 1 (dk_at dksX3_copyRow_0 15 rfl rfl)
theorem dX3_copyRow_18 : decode cX3_copyRow 18 = .ok (.goto (-16), 3) := dk_167 255 240 (dk_at dksX3_copyRow_0 18 rfl rfl)
theorem dX3_copyRow_21 : decode cX3_copyRow 21 = .ok (.return_, 1) := dk_177 (dk_at dksX3_copyRow_0 21 rfl rfl)
abbrev cX3_addBird : ByteArray := prog_14_method_23_code
def yX3_addBird : MethodName := ⟨RX3, "addBird", "(IIIII)I"⟩
def dkwX3_addBird_3 : List UInt8 := [172]
abbrev dktX3_addBird_3 : List UInt8 := dkwX3_addBird_3 ++ []
def dkwX3_addBird_2 : List UInt8 := [21, 4, 182, 0, 104, 42, 21, 6, 7, 21, 5, 182, 0, 104, 42, 21, 6, 8, 3, 182, 0, 104, 21, 6]
abbrev dktX3_addBird_2 : List UInt8 := dkwX3_addBird_2 ++ dktX3_addBird_3
def dkwX3_addBird_1 : List UInt8 := [27, 182, 0, 104, 42, 21, 6, 4, 28, 182, 0, 104, 42, 21, 6, 5, 29, 182, 0, 104, 42, 21, 6, 6]
abbrev dktX3_addBird_1 : List UInt8 := dkwX3_addBird_1 ++ dktX3_addBird_2
def dkwX3_addBird_0 : List UInt8 := [42, 180, 0, 9, 16, 10, 46, 54, 6, 42, 180, 0, 9, 16, 10, 92, 46, 4, 96, 79, 42, 21, 6, 3]
abbrev dktX3_addBird_0 : List UInt8 := dkwX3_addBird_0 ++ dktX3_addBird_1
theorem dksX3_addBird_0 : cX3_addBird.data.toList.drop 0 = dktX3_addBird_0 := by decide +kernel
theorem dksX3_addBird_1 : cX3_addBird.data.toList.drop 24 = dktX3_addBird_1 := dk_seg dksX3_addBird_0 24 rfl rfl
theorem dksX3_addBird_2 : cX3_addBird.data.toList.drop 48 = dktX3_addBird_2 := dk_seg dksX3_addBird_1 24 rfl rfl
theorem dksX3_addBird_3 : cX3_addBird.data.toList.drop 72 = dktX3_addBird_3 := dk_seg dksX3_addBird_2 24 rfl rfl
theorem dX3_addBird_0 : decode cX3_addBird 0 = .ok (.aload_n 0, 1) := dk_42 (dk_at dksX3_addBird_0 0 rfl rfl)
theorem dX3_addBird_1 : decode cX3_addBird 1 = .ok (.getfield 9, 3) := dk_180 0 9 (dk_at dksX3_addBird_0 1 rfl rfl)
theorem dX3_addBird_4 : decode cX3_addBird 4 = .ok (.bipush 10, 2) := dk_16 10 (dk_at dksX3_addBird_0 4 rfl rfl)
theorem dX3_addBird_6 : decode cX3_addBird 6 = .ok (.iaload, 1) := dk_46 (dk_at dksX3_addBird_0 6 rfl rfl)
theorem dX3_addBird_7 : decode cX3_addBird 7 = .ok (.istore 6, 2) := dk_54 6 (dk_at dksX3_addBird_0 7 rfl rfl)
theorem dX3_addBird_9 : decode cX3_addBird 9 = .ok (.aload_n 0, 1) := dk_42 (dk_at dksX3_addBird_0 9 rfl rfl)
theorem dX3_addBird_10 : decode cX3_addBird 10 = .ok (.getfield 9, 3) := dk_180 0 9 (dk_at dksX3_addBird_0 10 rfl rfl)
theorem dX3_addBird_13 : decode cX3_addBird 13 = .ok (.bipush 10, 2) := dk_16 10 (dk_at dksX3_addBird_0 13 rfl rfl)
theorem dX3_addBird_15 : decode cX3_addBird 15 = .ok (.dup2, 1) := dk_92 (dk_at dksX3_addBird_0 15 rfl rfl)
theorem dX3_addBird_16 : decode cX3_addBird 16 = .ok (.iaload, 1) := dk_46 (dk_at dksX3_addBird_0 16 rfl rfl)
theorem dX3_addBird_17 : decode cX3_addBird 17 = .ok (.iconst 1, 1) := dk_4 (dk_at dksX3_addBird_0 17 rfl rfl)
theorem dX3_addBird_18 : decode cX3_addBird 18 = .ok (.iadd, 1) := dk_96 (dk_at dksX3_addBird_0 18 rfl rfl)
theorem dX3_addBird_19 : decode cX3_addBird 19 = .ok (.iastore, 1) := dk_79 (dk_at dksX3_addBird_0 19 rfl rfl)
theorem dX3_addBird_20 : decode cX3_addBird 20 = .ok (.aload_n 0, 1) := dk_42 (dk_at dksX3_addBird_0 20 rfl rfl)
theorem dX3_addBird_21 : decode cX3_addBird 21 = .ok (.iload 6, 2) := dk_21 6 (dk_at dksX3_addBird_0 21 rfl rfl)
theorem dX3_addBird_23 : decode cX3_addBird 23 = .ok (.iconst 0, 1) := dk_3 (dk_at dksX3_addBird_0 23 rfl rfl)
theorem dX3_addBird_24 : decode cX3_addBird 24 = .ok (.iload_n 1, 1) := dk_27 (dk_at dksX3_addBird_1 0 rfl rfl)
theorem dX3_addBird_25 : decode cX3_addBird 25 = .ok (.invokevirtual 104, 3) := dk_182 0 104 (dk_at dksX3_addBird_1 1 rfl rfl)
theorem dX3_addBird_28 : decode cX3_addBird 28 = .ok (.aload_n 0, 1) := dk_42 (dk_at dksX3_addBird_1 4 rfl rfl)
theorem dX3_addBird_29 : decode cX3_addBird 29 = .ok (.iload 6, 2) := dk_21 6 (dk_at dksX3_addBird_1 5 rfl rfl)
theorem dX3_addBird_31 : decode cX3_addBird 31 = .ok (.iconst 1, 1) := dk_4 (dk_at dksX3_addBird_1 7 rfl rfl)
theorem dX3_addBird_32 : decode cX3_addBird 32 = .ok (.iload_n 2, 1) := dk_28 (dk_at dksX3_addBird_1 8 rfl rfl)
theorem dX3_addBird_33 : decode cX3_addBird 33 = .ok (.invokevirtual 104, 3) := dk_182 0 104 (dk_at dksX3_addBird_1 9 rfl rfl)
theorem dX3_addBird_36 : decode cX3_addBird 36 = .ok (.aload_n 0, 1) := dk_42 (dk_at dksX3_addBird_1 12 rfl rfl)
theorem dX3_addBird_37 : decode cX3_addBird 37 = .ok (.iload 6, 2) := dk_21 6 (dk_at dksX3_addBird_1 13 rfl rfl)
theorem dX3_addBird_39 : decode cX3_addBird 39 = .ok (.iconst 2, 1) := dk_5 (dk_at dksX3_addBird_1 15 rfl rfl)
theorem dX3_addBird_40 : decode cX3_addBird 40 = .ok (.iload_n 3, 1) := dk_29 (dk_at dksX3_addBird_1 16 rfl rfl)
theorem dX3_addBird_41 : decode cX3_addBird 41 = .ok (.invokevirtual 104, 3) := dk_182 0 104 (dk_at dksX3_addBird_1 17 rfl rfl)
theorem dX3_addBird_44 : decode cX3_addBird 44 = .ok (.aload_n 0, 1) := dk_42 (dk_at dksX3_addBird_1 20 rfl rfl)
theorem dX3_addBird_45 : decode cX3_addBird 45 = .ok (.iload 6, 2) := dk_21 6 (dk_at dksX3_addBird_1 21 rfl rfl)
theorem dX3_addBird_47 : decode cX3_addBird 47 = .ok (.iconst 3, 1) := dk_6 (dk_at dksX3_addBird_1 23 rfl rfl)
theorem dX3_addBird_48 : decode cX3_addBird 48 = .ok (.iload 4, 2) := dk_21 4 (dk_at dksX3_addBird_2 0 rfl rfl)
theorem dX3_addBird_50 : decode cX3_addBird 50 = .ok (.invokevirtual 104, 3) := dk_182 0 104 (dk_at dksX3_addBird_2 2 rfl rfl)
theorem dX3_addBird_53 : decode cX3_addBird 53 = .ok (.aload_n 0, 1) := dk_42 (dk_at dksX3_addBird_2 5 rfl rfl)
theorem dX3_addBird_54 : decode cX3_addBird 54 = .ok (.iload 6, 2) := dk_21 6 (dk_at dksX3_addBird_2 6 rfl rfl)
theorem dX3_addBird_56 : decode cX3_addBird 56 = .ok (.iconst 4, 1) := dk_7 (dk_at dksX3_addBird_2 8 rfl rfl)
theorem dX3_addBird_57 : decode cX3_addBird 57 = .ok (.iload 5, 2) := dk_21 5 (dk_at dksX3_addBird_2 9 rfl rfl)
theorem dX3_addBird_59 : decode cX3_addBird 59 = .ok (.invokevirtual 104, 3) := dk_182 0 104 (dk_at dksX3_addBird_2 11 rfl rfl)
theorem dX3_addBird_62 : decode cX3_addBird 62 = .ok (.aload_n 0, 1) := dk_42 (dk_at dksX3_addBird_2 14 rfl rfl)
theorem dX3_addBird_63 : decode cX3_addBird 63 = .ok (.iload 6, 2) := dk_21 6 (dk_at dksX3_addBird_2 15 rfl rfl)
theorem dX3_addBird_65 : decode cX3_addBird 65 = .ok (.iconst 5, 1) := dk_8 (dk_at dksX3_addBird_2 17 rfl rfl)
theorem dX3_addBird_66 : decode cX3_addBird 66 = .ok (.iconst 0, 1) := dk_3 (dk_at dksX3_addBird_2 18 rfl rfl)
theorem dX3_addBird_67 : decode cX3_addBird 67 = .ok (.invokevirtual 104, 3) := dk_182 0 104 (dk_at dksX3_addBird_2 19 rfl rfl)
theorem dX3_addBird_70 : decode cX3_addBird 70 = .ok (.iload 6, 2) := dk_21 6 (dk_at dksX3_addBird_2 22 rfl rfl)
theorem dX3_addBird_72 : decode cX3_addBird 72 = .ok (.ireturn, 1) := dk_172 (dk_at dksX3_addBird_3 0 rfl rfl)
abbrev cX3_put : ByteArray := prog_14_method_20_code
def yX3_put : MethodName := ⟨RX3, "put", "(III)V"⟩
def dkwX3_put_0 : List UInt8 := [42, 180, 0, 9, 16, 34, 16, 6, 27, 104, 96, 28, 96, 29, 79, 177]
abbrev dktX3_put_0 : List UInt8 := dkwX3_put_0 ++ []
theorem dksX3_put_0 : cX3_put.data.toList.drop 0 = dktX3_put_0 := by decide +kernel
theorem dX3_put_0 : decode cX3_put 0 = .ok (.aload_n 0, 1) := dk_42 (dk_at dksX3_put_0 0 rfl rfl)
theorem dX3_put_1 : decode cX3_put 1 = .ok (.getfield 9, 3) := dk_180 0 9 (dk_at dksX3_put_0 1 rfl rfl)
theorem dX3_put_4 : decode cX3_put 4 = .ok (.bipush 34, 2) := dk_16 34 (dk_at dksX3_put_0 4 rfl rfl)
theorem dX3_put_6 : decode cX3_put 6 = .ok (.bipush 6, 2) := dk_16 6 (dk_at dksX3_put_0 6 rfl rfl)
theorem dX3_put_8 : decode cX3_put 8 = .ok (.iload_n 1, 1) := dk_27 (dk_at dksX3_put_0 8 rfl rfl)
theorem dX3_put_9 : decode cX3_put 9 = .ok (.imul, 1) := dk_104 (dk_at dksX3_put_0 9 rfl rfl)
theorem dX3_put_10 : decode cX3_put 10 = .ok (.iadd, 1) := dk_96 (dk_at dksX3_put_0 10 rfl rfl)
theorem dX3_put_11 : decode cX3_put 11 = .ok (.iload_n 2, 1) := dk_28 (dk_at dksX3_put_0 11 rfl rfl)
theorem dX3_put_12 : decode cX3_put 12 = .ok (.iadd, 1) := dk_96 (dk_at dksX3_put_0 12 rfl rfl)
theorem dX3_put_13 : decode cX3_put 13 = .ok (.iload_n 3, 1) := dk_29 (dk_at dksX3_put_0 13 rfl rfl)
theorem dX3_put_14 : decode cX3_put 14 = .ok (.iastore, 1) := dk_79 (dk_at dksX3_put_0 14 rfl rfl)
theorem dX3_put_15 : decode cX3_put 15 = .ok (.return_, 1) := dk_177 (dk_at dksX3_put_0 15 rfl rfl)
abbrev cX3_hen : ByteArray := prog_14_method_26_code
def yX3_hen : MethodName := ⟨RX3, "hen", "(I)I"⟩
def dkwX3_hen_2 : List UInt8 := [79, 42, 4, 27, 3, 3, 2, 182, 0, 121, 172]
abbrev dktX3_hen_2 : List UInt8 := dkwX3_hen_2 ++ []
def dkwX3_hen_1 : List UInt8 := [182, 0, 115, 182, 0, 94, 153, 0, 5, 3, 172, 42, 182, 0, 118, 42, 180, 0, 9, 5, 92, 46, 8, 100]
abbrev dktX3_hen_1 : List UInt8 := dkwX3_hen_1 ++ dktX3_hen_2
def dkwX3_hen_0 : List UInt8 := [42, 4, 27, 184, 0, 112, 154, 0, 7, 4, 167, 0, 4, 3, 182, 0, 94, 154, 0, 16, 42, 5, 42, 8]
abbrev dktX3_hen_0 : List UInt8 := dkwX3_hen_0 ++ dktX3_hen_1
theorem dksX3_hen_0 : cX3_hen.data.toList.drop 0 = dktX3_hen_0 := by decide +kernel
theorem dksX3_hen_1 : cX3_hen.data.toList.drop 24 = dktX3_hen_1 := dk_seg dksX3_hen_0 24 rfl rfl
theorem dksX3_hen_2 : cX3_hen.data.toList.drop 48 = dktX3_hen_2 := dk_seg dksX3_hen_1 24 rfl rfl
theorem dX3_hen_0 : decode cX3_hen 0 = .ok (.aload_n 0, 1) := dk_42 (dk_at dksX3_hen_0 0 rfl rfl)
theorem dX3_hen_1 : decode cX3_hen 1 = .ok (.iconst 1, 1) := dk_4 (dk_at dksX3_hen_0 1 rfl rfl)
theorem dX3_hen_2 : decode cX3_hen 2 = .ok (.iload_n 1, 1) := dk_27 (dk_at dksX3_hen_0 2 rfl rfl)
theorem dX3_hen_3 : decode cX3_hen 3 = .ok (.invokestatic 112, 3) := dk_184 0 112 (dk_at dksX3_hen_0 3 rfl rfl)
theorem dX3_hen_6 : decode cX3_hen 6 = .ok (.ifCond .ne 7, 3) := dk_154 0 7 (dk_at dksX3_hen_0 6 rfl rfl)
theorem dX3_hen_9 : decode cX3_hen 9 = .ok (.iconst 1, 1) := dk_4 (dk_at dksX3_hen_0 9 rfl rfl)
theorem dX3_hen_10 : decode cX3_hen 10 = .ok (.goto 4, 3) := dk_167 0 4 (dk_at dksX3_hen_0 10 rfl rfl)
theorem dX3_hen_13 : decode cX3_hen 13 = .ok (.iconst 0, 1) := dk_3 (dk_at dksX3_hen_0 13 rfl rfl)
theorem dX3_hen_14 : decode cX3_hen 14 = .ok (.invokevirtual 94, 3) := dk_182 0 94 (dk_at dksX3_hen_0 14 rfl rfl)
theorem dX3_hen_17 : decode cX3_hen 17 = .ok (.ifCond .ne 16, 3) := dk_154 0 16 (dk_at dksX3_hen_0 17 rfl rfl)
theorem dX3_hen_20 : decode cX3_hen 20 = .ok (.aload_n 0, 1) := dk_42 (dk_at dksX3_hen_0 20 rfl rfl)
theorem dX3_hen_21 : decode cX3_hen 21 = .ok (.iconst 2, 1) := dk_5 (dk_at dksX3_hen_0 21 rfl rfl)
theorem dX3_hen_22 : decode cX3_hen 22 = .ok (.aload_n 0, 1) := dk_42 (dk_at dksX3_hen_0 22 rfl rfl)
theorem dX3_hen_23 : decode cX3_hen 23 = .ok (.iconst 5, 1) := dk_8 (dk_at dksX3_hen_0 23 rfl rfl)
theorem dX3_hen_24 : decode cX3_hen 24 = .ok (.invokevirtual 115, 3) := dk_182 0 115 (dk_at dksX3_hen_1 0 rfl rfl)
theorem dX3_hen_27 : decode cX3_hen 27 = .ok (.invokevirtual 94, 3) := dk_182 0 94 (dk_at dksX3_hen_1 3 rfl rfl)
theorem dX3_hen_30 : decode cX3_hen 30 = .ok (.ifCond .eq 5, 3) := dk_153 0 5 (dk_at dksX3_hen_1 6 rfl rfl)
theorem dX3_hen_33 : decode cX3_hen 33 = .ok (.iconst 0, 1) := dk_3 (dk_at dksX3_hen_1 9 rfl rfl)
theorem dX3_hen_34 : decode cX3_hen 34 = .ok (.ireturn, 1) := dk_172 (dk_at dksX3_hen_1 10 rfl rfl)
theorem dX3_hen_35 : decode cX3_hen 35 = .ok (.aload_n 0, 1) := dk_42 (dk_at dksX3_hen_1 11 rfl rfl)
theorem dX3_hen_36 : decode cX3_hen 36 = .ok (.invokevirtual 118, 3) := dk_182 0 118 (dk_at dksX3_hen_1 12 rfl rfl)
theorem dX3_hen_39 : decode cX3_hen 39 = .ok (.aload_n 0, 1) := dk_42 (dk_at dksX3_hen_1 15 rfl rfl)
theorem dX3_hen_40 : decode cX3_hen 40 = .ok (.getfield 9, 3) := dk_180 0 9 (dk_at dksX3_hen_1 16 rfl rfl)
theorem dX3_hen_43 : decode cX3_hen 43 = .ok (.iconst 2, 1) := dk_5 (dk_at dksX3_hen_1 19 rfl rfl)
theorem dX3_hen_44 : decode cX3_hen 44 = .ok (.dup2, 1) := dk_92 (dk_at dksX3_hen_1 20 rfl rfl)
theorem dX3_hen_45 : decode cX3_hen 45 = .ok (.iaload, 1) := dk_46 (dk_at dksX3_hen_1 21 rfl rfl)
theorem dX3_hen_46 : decode cX3_hen 46 = .ok (.iconst 5, 1) := dk_8 (dk_at dksX3_hen_1 22 rfl rfl)
theorem dX3_hen_47 : decode cX3_hen 47 = .ok (.isub, 1) := dk_100 (dk_at dksX3_hen_1 23 rfl rfl)
theorem dX3_hen_48 : decode cX3_hen 48 = .ok (.iastore, 1) := dk_79 (dk_at dksX3_hen_2 0 rfl rfl)
theorem dX3_hen_49 : decode cX3_hen 49 = .ok (.aload_n 0, 1) := dk_42 (dk_at dksX3_hen_2 1 rfl rfl)
theorem dX3_hen_50 : decode cX3_hen 50 = .ok (.iconst 1, 1) := dk_4 (dk_at dksX3_hen_2 2 rfl rfl)
theorem dX3_hen_51 : decode cX3_hen 51 = .ok (.iload_n 1, 1) := dk_27 (dk_at dksX3_hen_2 3 rfl rfl)
theorem dX3_hen_52 : decode cX3_hen 52 = .ok (.iconst 0, 1) := dk_3 (dk_at dksX3_hen_2 4 rfl rfl)
theorem dX3_hen_53 : decode cX3_hen 53 = .ok (.iconst 0, 1) := dk_3 (dk_at dksX3_hen_2 5 rfl rfl)
theorem dX3_hen_54 : decode cX3_hen 54 = .ok (.iconst (-1), 1) := dk_2 (dk_at dksX3_hen_2 6 rfl rfl)
theorem dX3_hen_55 : decode cX3_hen 55 = .ok (.invokevirtual 121, 3) := dk_182 0 121 (dk_at dksX3_hen_2 7 rfl rfl)
theorem dX3_hen_58 : decode cX3_hen 58 = .ok (.ireturn, 1) := dk_172 (dk_at dksX3_hen_2 10 rfl rfl)
abbrev cX3_lay : ByteArray := prog_14_method_28_code
def yX3_lay : MethodName := ⟨RX3, "lay", "(I)I"⟩
def dkwX3_lay_2 : List UInt8 := [182, 0, 98, 4, 96, 182, 0, 104, 42, 27, 5, 182, 0, 98, 172]
abbrev dktX3_lay_2 : List UInt8 := dkwX3_lay_2 ++ []
def dkwX3_lay_1 : List UInt8 := [27, 182, 0, 128, 182, 0, 94, 153, 0, 5, 3, 172, 42, 182, 0, 118, 42, 27, 5, 42, 27, 5]
abbrev dktX3_lay_1 : List UInt8 := dkwX3_lay_1 ++ dktX3_lay_2
def dkwX3_lay_0 : List UInt8 := [42, 4, 42, 27, 182, 0, 125, 154, 0, 7, 4, 167, 0, 4, 3, 182, 0, 94, 154, 0, 16, 42, 5, 42]
abbrev dktX3_lay_0 : List UInt8 := dkwX3_lay_0 ++ dktX3_lay_1
theorem dksX3_lay_0 : cX3_lay.data.toList.drop 0 = dktX3_lay_0 := by decide +kernel
theorem dksX3_lay_1 : cX3_lay.data.toList.drop 24 = dktX3_lay_1 := dk_seg dksX3_lay_0 24 rfl rfl
theorem dksX3_lay_2 : cX3_lay.data.toList.drop 46 = dktX3_lay_2 := dk_seg dksX3_lay_1 22 rfl rfl
theorem dX3_lay_0 : decode cX3_lay 0 = .ok (.aload_n 0, 1) := dk_42 (dk_at dksX3_lay_0 0 rfl rfl)
theorem dX3_lay_1 : decode cX3_lay 1 = .ok (.iconst 1, 1) := dk_4 (dk_at dksX3_lay_0 1 rfl rfl)
theorem dX3_lay_2 : decode cX3_lay 2 = .ok (.aload_n 0, 1) := dk_42 (dk_at dksX3_lay_0 2 rfl rfl)
theorem dX3_lay_3 : decode cX3_lay 3 = .ok (.iload_n 1, 1) := dk_27 (dk_at dksX3_lay_0 3 rfl rfl)
theorem dX3_lay_4 : decode cX3_lay 4 = .ok (.invokevirtual 125, 3) := dk_182 0 125 (dk_at dksX3_lay_0 4 rfl rfl)
theorem dX3_lay_7 : decode cX3_lay 7 = .ok (.ifCond .ne 7, 3) := dk_154 0 7 (dk_at dksX3_lay_0 7 rfl rfl)
theorem dX3_lay_10 : decode cX3_lay 10 = .ok (.iconst 1, 1) := dk_4 (dk_at dksX3_lay_0 10 rfl rfl)
theorem dX3_lay_11 : decode cX3_lay 11 = .ok (.goto 4, 3) := dk_167 0 4 (dk_at dksX3_lay_0 11 rfl rfl)
theorem dX3_lay_14 : decode cX3_lay 14 = .ok (.iconst 0, 1) := dk_3 (dk_at dksX3_lay_0 14 rfl rfl)
theorem dX3_lay_15 : decode cX3_lay 15 = .ok (.invokevirtual 94, 3) := dk_182 0 94 (dk_at dksX3_lay_0 15 rfl rfl)
theorem dX3_lay_18 : decode cX3_lay 18 = .ok (.ifCond .ne 16, 3) := dk_154 0 16 (dk_at dksX3_lay_0 18 rfl rfl)
theorem dX3_lay_21 : decode cX3_lay 21 = .ok (.aload_n 0, 1) := dk_42 (dk_at dksX3_lay_0 21 rfl rfl)
theorem dX3_lay_22 : decode cX3_lay 22 = .ok (.iconst 2, 1) := dk_5 (dk_at dksX3_lay_0 22 rfl rfl)
theorem dX3_lay_23 : decode cX3_lay 23 = .ok (.aload_n 0, 1) := dk_42 (dk_at dksX3_lay_0 23 rfl rfl)
theorem dX3_lay_24 : decode cX3_lay 24 = .ok (.iload_n 1, 1) := dk_27 (dk_at dksX3_lay_1 0 rfl rfl)
theorem dX3_lay_25 : decode cX3_lay 25 = .ok (.invokevirtual 128, 3) := dk_182 0 128 (dk_at dksX3_lay_1 1 rfl rfl)
theorem dX3_lay_28 : decode cX3_lay 28 = .ok (.invokevirtual 94, 3) := dk_182 0 94 (dk_at dksX3_lay_1 4 rfl rfl)
theorem dX3_lay_31 : decode cX3_lay 31 = .ok (.ifCond .eq 5, 3) := dk_153 0 5 (dk_at dksX3_lay_1 7 rfl rfl)
theorem dX3_lay_34 : decode cX3_lay 34 = .ok (.iconst 0, 1) := dk_3 (dk_at dksX3_lay_1 10 rfl rfl)
theorem dX3_lay_35 : decode cX3_lay 35 = .ok (.ireturn, 1) := dk_172 (dk_at dksX3_lay_1 11 rfl rfl)
theorem dX3_lay_36 : decode cX3_lay 36 = .ok (.aload_n 0, 1) := dk_42 (dk_at dksX3_lay_1 12 rfl rfl)
theorem dX3_lay_37 : decode cX3_lay 37 = .ok (.invokevirtual 118, 3) := dk_182 0 118 (dk_at dksX3_lay_1 13 rfl rfl)
theorem dX3_lay_40 : decode cX3_lay 40 = .ok (.aload_n 0, 1) := dk_42 (dk_at dksX3_lay_1 16 rfl rfl)
theorem dX3_lay_41 : decode cX3_lay 41 = .ok (.iload_n 1, 1) := dk_27 (dk_at dksX3_lay_1 17 rfl rfl)
theorem dX3_lay_42 : decode cX3_lay 42 = .ok (.iconst 2, 1) := dk_5 (dk_at dksX3_lay_1 18 rfl rfl)
theorem dX3_lay_43 : decode cX3_lay 43 = .ok (.aload_n 0, 1) := dk_42 (dk_at dksX3_lay_1 19 rfl rfl)
theorem dX3_lay_44 : decode cX3_lay 44 = .ok (.iload_n 1, 1) := dk_27 (dk_at dksX3_lay_1 20 rfl rfl)
theorem dX3_lay_45 : decode cX3_lay 45 = .ok (.iconst 2, 1) := dk_5 (dk_at dksX3_lay_1 21 rfl rfl)
theorem dX3_lay_46 : decode cX3_lay 46 = .ok (.invokevirtual 98, 3) := dk_182 0 98 (dk_at dksX3_lay_2 0 rfl rfl)
theorem dX3_lay_49 : decode cX3_lay 49 = .ok (.iconst 1, 1) := dk_4 (dk_at dksX3_lay_2 3 rfl rfl)
theorem dX3_lay_50 : decode cX3_lay 50 = .ok (.iadd, 1) := dk_96 (dk_at dksX3_lay_2 4 rfl rfl)
theorem dX3_lay_51 : decode cX3_lay 51 = .ok (.invokevirtual 104, 3) := dk_182 0 104 (dk_at dksX3_lay_2 5 rfl rfl)
theorem dX3_lay_54 : decode cX3_lay 54 = .ok (.aload_n 0, 1) := dk_42 (dk_at dksX3_lay_2 8 rfl rfl)
theorem dX3_lay_55 : decode cX3_lay 55 = .ok (.iload_n 1, 1) := dk_27 (dk_at dksX3_lay_2 9 rfl rfl)
theorem dX3_lay_56 : decode cX3_lay 56 = .ok (.iconst 2, 1) := dk_5 (dk_at dksX3_lay_2 10 rfl rfl)
theorem dX3_lay_57 : decode cX3_lay 57 = .ok (.invokevirtual 98, 3) := dk_182 0 98 (dk_at dksX3_lay_2 11 rfl rfl)
theorem dX3_lay_60 : decode cX3_lay 60 = .ok (.ireturn, 1) := dk_172 (dk_at dksX3_lay_2 14 rfl rfl)
abbrev cX3_isBird : ByteArray := prog_14_method_18_code
def yX3_isBird : MethodName := ⟨RX3, "isBird", "(I)Z"⟩
def dkwX3_isBird_0 : List UInt8 := [27, 3, 42, 180, 0, 9, 16, 10, 46, 4, 100, 184, 0, 68, 172]
abbrev dktX3_isBird_0 : List UInt8 := dkwX3_isBird_0 ++ []
theorem dksX3_isBird_0 : cX3_isBird.data.toList.drop 0 = dktX3_isBird_0 := by decide +kernel
theorem dX3_isBird_0 : decode cX3_isBird 0 = .ok (.iload_n 1, 1) := dk_27 (dk_at dksX3_isBird_0 0 rfl rfl)
theorem dX3_isBird_1 : decode cX3_isBird 1 = .ok (.iconst 0, 1) := dk_3 (dk_at dksX3_isBird_0 1 rfl rfl)
theorem dX3_isBird_2 : decode cX3_isBird 2 = .ok (.aload_n 0, 1) := dk_42 (dk_at dksX3_isBird_0 2 rfl rfl)
theorem dX3_isBird_3 : decode cX3_isBird 3 = .ok (.getfield 9, 3) := dk_180 0 9 (dk_at dksX3_isBird_0 3 rfl rfl)
theorem dX3_isBird_6 : decode cX3_isBird 6 = .ok (.bipush 10, 2) := dk_16 10 (dk_at dksX3_isBird_0 6 rfl rfl)
theorem dX3_isBird_8 : decode cX3_isBird 8 = .ok (.iaload, 1) := dk_46 (dk_at dksX3_isBird_0 8 rfl rfl)
theorem dX3_isBird_9 : decode cX3_isBird 9 = .ok (.iconst 1, 1) := dk_4 (dk_at dksX3_isBird_0 9 rfl rfl)
theorem dX3_isBird_10 : decode cX3_isBird 10 = .ok (.isub, 1) := dk_100 (dk_at dksX3_isBird_0 10 rfl rfl)
theorem dX3_isBird_11 : decode cX3_isBird 11 = .ok (.invokestatic 68, 3) := dk_184 0 68 (dk_at dksX3_isBird_0 11 rfl rfl)
theorem dX3_isBird_14 : decode cX3_isBird 14 = .ok (.ireturn, 1) := dk_172 (dk_at dksX3_isBird_0 14 rfl rfl)
abbrev cX3_isLayRefused : ByteArray := prog_14_method_27_code
def yX3_isLayRefused : MethodName := ⟨RX3, "isLayRefused", "(I)Z"⟩
def dkwX3_isLayRefused_2 : List UInt8 := [4, 167, 0, 4, 3, 172]
abbrev dktX3_isLayRefused_2 : List UInt8 := dkwX3_isLayRefused_2 ++ []
def dkwX3_isLayRefused_1 : List UInt8 := [27, 5, 182, 0, 98, 16, 6, 160, 0, 7, 4, 167, 0, 4, 3, 6, 16, 6, 182, 0, 108, 153, 0, 7]
abbrev dktX3_isLayRefused_1 : List UInt8 := dkwX3_isLayRefused_1 ++ dktX3_isLayRefused_2
def dkwX3_isLayRefused_0 : List UInt8 := [42, 42, 27, 182, 0, 101, 154, 0, 7, 4, 167, 0, 4, 3, 5, 27, 182, 0, 108, 154, 0, 29, 42, 42]
abbrev dktX3_isLayRefused_0 : List UInt8 := dkwX3_isLayRefused_0 ++ dktX3_isLayRefused_1
theorem dksX3_isLayRefused_0 : cX3_isLayRefused.data.toList.drop 0 = dktX3_isLayRefused_0 := by decide +kernel
theorem dksX3_isLayRefused_1 : cX3_isLayRefused.data.toList.drop 24 = dktX3_isLayRefused_1 := dk_seg dksX3_isLayRefused_0 24 rfl rfl
theorem dksX3_isLayRefused_2 : cX3_isLayRefused.data.toList.drop 48 = dktX3_isLayRefused_2 := dk_seg dksX3_isLayRefused_1 24 rfl rfl
theorem dX3_isLayRefused_0 : decode cX3_isLayRefused 0 = .ok (.aload_n 0, 1) := dk_42 (dk_at dksX3_isLayRefused_0 0 rfl rfl)
theorem dX3_isLayRefused_1 : decode cX3_isLayRefused 1 = .ok (.aload_n 0, 1) := dk_42 (dk_at dksX3_isLayRefused_0 1 rfl rfl)
theorem dX3_isLayRefused_2 : decode cX3_isLayRefused 2 = .ok (.iload_n 1, 1) := dk_27 (dk_at dksX3_isLayRefused_0 2 rfl rfl)
theorem dX3_isLayRefused_3 : decode cX3_isLayRefused 3 = .ok (.invokevirtual 101, 3) := dk_182 0 101 (dk_at dksX3_isLayRefused_0 3 rfl rfl)
theorem dX3_isLayRefused_6 : decode cX3_isLayRefused 6 = .ok (.ifCond .ne 7, 3) := dk_154 0 7 (dk_at dksX3_isLayRefused_0 6 rfl rfl)
theorem dX3_isLayRefused_9 : decode cX3_isLayRefused 9 = .ok (.iconst 1, 1) := dk_4 (dk_at dksX3_isLayRefused_0 9 rfl rfl)
theorem dX3_isLayRefused_10 : decode cX3_isLayRefused 10 = .ok (.goto 4, 3) := dk_167 0 4 (dk_at dksX3_isLayRefused_0 10 rfl rfl)
theorem dX3_isLayRefused_13 : decode cX3_isLayRefused 13 = .ok (.iconst 0, 1) := dk_3 (dk_at dksX3_isLayRefused_0 13 rfl rfl)
theorem dX3_isLayRefused_14 : decode cX3_isLayRefused 14 = .ok (.iconst 2, 1) := dk_5 (dk_at dksX3_isLayRefused_0 14 rfl rfl)
theorem dX3_isLayRefused_15 : decode cX3_isLayRefused 15 = .ok (.iload_n 1, 1) := dk_27 (dk_at dksX3_isLayRefused_0 15 rfl rfl)
theorem dX3_isLayRefused_16 : decode cX3_isLayRefused 16 = .ok (.invokevirtual 108, 3) := dk_182 0 108 (dk_at dksX3_isLayRefused_0 16 rfl rfl)
theorem dX3_isLayRefused_19 : decode cX3_isLayRefused 19 = .ok (.ifCond .ne 29, 3) := dk_154 0 29 (dk_at dksX3_isLayRefused_0 19 rfl rfl)
theorem dX3_isLayRefused_22 : decode cX3_isLayRefused 22 = .ok (.aload_n 0, 1) := dk_42 (dk_at dksX3_isLayRefused_0 22 rfl rfl)
theorem dX3_isLayRefused_23 : decode cX3_isLayRefused 23 = .ok (.aload_n 0, 1) := dk_42 (dk_at dksX3_isLayRefused_0 23 rfl rfl)
theorem dX3_isLayRefused_24 : decode cX3_isLayRefused 24 = .ok (.iload_n 1, 1) := dk_27 (dk_at dksX3_isLayRefused_1 0 rfl rfl)
theorem dX3_isLayRefused_25 : decode cX3_isLayRefused 25 = .ok (.iconst 2, 1) := dk_5 (dk_at dksX3_isLayRefused_1 1 rfl rfl)
theorem dX3_isLayRefused_26 : decode cX3_isLayRefused 26 = .ok (.invokevirtual 98, 3) := dk_182 0 98 (dk_at dksX3_isLayRefused_1 2 rfl rfl)
theorem dX3_isLayRefused_29 : decode cX3_isLayRefused 29 = .ok (.bipush 6, 2) := dk_16 6 (dk_at dksX3_isLayRefused_1 5 rfl rfl)
theorem dX3_isLayRefused_31 : decode cX3_isLayRefused 31 = .ok (.if_icmp .ne 7, 3) := dk_160 0 7 (dk_at dksX3_isLayRefused_1 7 rfl rfl)
theorem dX3_isLayRefused_34 : decode cX3_isLayRefused 34 = .ok (.iconst 1, 1) := dk_4 (dk_at dksX3_isLayRefused_1 10 rfl rfl)
theorem dX3_isLayRefused_35 : decode cX3_isLayRefused 35 = .ok (.goto 4, 3) := dk_167 0 4 (dk_at dksX3_isLayRefused_1 11 rfl rfl)
theorem dX3_isLayRefused_38 : decode cX3_isLayRefused 38 = .ok (.iconst 0, 1) := dk_3 (dk_at dksX3_isLayRefused_1 14 rfl rfl)
theorem dX3_isLayRefused_39 : decode cX3_isLayRefused 39 = .ok (.iconst 3, 1) := dk_6 (dk_at dksX3_isLayRefused_1 15 rfl rfl)
theorem dX3_isLayRefused_40 : decode cX3_isLayRefused 40 = .ok (.bipush 6, 2) := dk_16 6 (dk_at dksX3_isLayRefused_1 16 rfl rfl)
theorem dX3_isLayRefused_42 : decode cX3_isLayRefused 42 = .ok (.invokevirtual 108, 3) := dk_182 0 108 (dk_at dksX3_isLayRefused_1 18 rfl rfl)
theorem dX3_isLayRefused_45 : decode cX3_isLayRefused 45 = .ok (.ifCond .eq 7, 3) := dk_153 0 7 (dk_at dksX3_isLayRefused_1 21 rfl rfl)
theorem dX3_isLayRefused_48 : decode cX3_isLayRefused 48 = .ok (.iconst 1, 1) := dk_4 (dk_at dksX3_isLayRefused_2 0 rfl rfl)
theorem dX3_isLayRefused_49 : decode cX3_isLayRefused 49 = .ok (.goto 4, 3) := dk_167 0 4 (dk_at dksX3_isLayRefused_2 1 rfl rfl)
theorem dX3_isLayRefused_52 : decode cX3_isLayRefused 52 = .ok (.iconst 0, 1) := dk_3 (dk_at dksX3_isLayRefused_2 4 rfl rfl)
theorem dX3_isLayRefused_53 : decode cX3_isLayRefused 53 = .ok (.ireturn, 1) := dk_172 (dk_at dksX3_isLayRefused_2 5 rfl rfl)
abbrev cX3_isHen : ByteArray := prog_14_method_21_code
def yX3_isHen : MethodName := ⟨RX3, "isHen", "(I)Z"⟩
def dkwX3_isHen_0 : List UInt8 := [42, 27, 3, 182, 0, 98, 4, 160, 0, 7, 4, 167, 0, 4, 3, 172]
abbrev dktX3_isHen_0 : List UInt8 := dkwX3_isHen_0 ++ []
theorem dksX3_isHen_0 : cX3_isHen.data.toList.drop 0 = dktX3_isHen_0 := by decide +kernel
theorem dX3_isHen_0 : decode cX3_isHen 0 = .ok (.aload_n 0, 1) := dk_42 (dk_at dksX3_isHen_0 0 rfl rfl)
theorem dX3_isHen_1 : decode cX3_isHen 1 = .ok (.iload_n 1, 1) := dk_27 (dk_at dksX3_isHen_0 1 rfl rfl)
theorem dX3_isHen_2 : decode cX3_isHen 2 = .ok (.iconst 0, 1) := dk_3 (dk_at dksX3_isHen_0 2 rfl rfl)
theorem dX3_isHen_3 : decode cX3_isHen 3 = .ok (.invokevirtual 98, 3) := dk_182 0 98 (dk_at dksX3_isHen_0 3 rfl rfl)
theorem dX3_isHen_6 : decode cX3_isHen 6 = .ok (.iconst 1, 1) := dk_4 (dk_at dksX3_isHen_0 6 rfl rfl)
theorem dX3_isHen_7 : decode cX3_isHen 7 = .ok (.if_icmp .ne 7, 3) := dk_160 0 7 (dk_at dksX3_isHen_0 7 rfl rfl)
theorem dX3_isHen_10 : decode cX3_isHen 10 = .ok (.iconst 1, 1) := dk_4 (dk_at dksX3_isHen_0 10 rfl rfl)
theorem dX3_isHen_11 : decode cX3_isHen 11 = .ok (.goto 4, 3) := dk_167 0 4 (dk_at dksX3_isHen_0 11 rfl rfl)
theorem dX3_isHen_14 : decode cX3_isHen 14 = .ok (.iconst 0, 1) := dk_3 (dk_at dksX3_isHen_0 14 rfl rfl)
theorem dX3_isHen_15 : decode cX3_isHen 15 = .ok (.ireturn, 1) := dk_172 (dk_at dksX3_isHen_0 15 rfl rfl)
abbrev cX3_of : ByteArray := prog_14_method_19_code
def yX3_of : MethodName := ⟨RX3, "of", "(II)I"⟩
def dkwX3_of_0 : List UInt8 := [42, 180, 0, 9, 16, 34, 16, 6, 27, 104, 96, 28, 96, 46, 172]
abbrev dktX3_of_0 : List UInt8 := dkwX3_of_0 ++ []
theorem dksX3_of_0 : cX3_of.data.toList.drop 0 = dktX3_of_0 := by decide +kernel
theorem dX3_of_0 : decode cX3_of 0 = .ok (.aload_n 0, 1) := dk_42 (dk_at dksX3_of_0 0 rfl rfl)
theorem dX3_of_1 : decode cX3_of 1 = .ok (.getfield 9, 3) := dk_180 0 9 (dk_at dksX3_of_0 1 rfl rfl)
theorem dX3_of_4 : decode cX3_of 4 = .ok (.bipush 34, 2) := dk_16 34 (dk_at dksX3_of_0 4 rfl rfl)
theorem dX3_of_6 : decode cX3_of 6 = .ok (.bipush 6, 2) := dk_16 6 (dk_at dksX3_of_0 6 rfl rfl)
theorem dX3_of_8 : decode cX3_of 8 = .ok (.iload_n 1, 1) := dk_27 (dk_at dksX3_of_0 8 rfl rfl)
theorem dX3_of_9 : decode cX3_of 9 = .ok (.imul, 1) := dk_104 (dk_at dksX3_of_0 9 rfl rfl)
theorem dX3_of_10 : decode cX3_of 10 = .ok (.iadd, 1) := dk_96 (dk_at dksX3_of_0 10 rfl rfl)
theorem dX3_of_11 : decode cX3_of 11 = .ok (.iload_n 2, 1) := dk_28 (dk_at dksX3_of_0 11 rfl rfl)
theorem dX3_of_12 : decode cX3_of 12 = .ok (.iadd, 1) := dk_96 (dk_at dksX3_of_0 12 rfl rfl)
theorem dX3_of_13 : decode cX3_of 13 = .ok (.iaload, 1) := dk_46 (dk_at dksX3_of_0 13 rfl rfl)
theorem dX3_of_14 : decode cX3_of 14 = .ok (.ireturn, 1) := dk_172 (dk_at dksX3_of_0 14 rfl rfl)
abbrev cX3_birdOf : ByteArray := prog_14_method_30_code
def yX3_birdOf : MethodName := ⟨RX3, "birdOf", "(II)I"⟩
def dkwX3_birdOf_2 : List UInt8 := [16, 6, 160, 0, 11, 42, 27, 182, 0, 131, 167, 0, 9, 42, 27, 28, 182, 0, 98, 172]
abbrev dktX3_birdOf_2 : List UInt8 := dkwX3_birdOf_2 ++ []
def dkwX3_birdOf_1 : List UInt8 := [3, 16, 6, 184, 0, 68, 154, 0, 7, 4, 167, 0, 4, 3, 182, 0, 94, 153, 0, 5, 3, 172, 28]
abbrev dktX3_birdOf_1 : List UInt8 := dkwX3_birdOf_1 ++ dktX3_birdOf_2
def dkwX3_birdOf_0 : List UInt8 := [42, 4, 42, 27, 182, 0, 125, 154, 0, 7, 4, 167, 0, 4, 3, 182, 0, 94, 154, 0, 26, 42, 5, 28]
abbrev dktX3_birdOf_0 : List UInt8 := dkwX3_birdOf_0 ++ dktX3_birdOf_1
theorem dksX3_birdOf_0 : cX3_birdOf.data.toList.drop 0 = dktX3_birdOf_0 := by decide +kernel
theorem dksX3_birdOf_1 : cX3_birdOf.data.toList.drop 24 = dktX3_birdOf_1 := dk_seg dksX3_birdOf_0 24 rfl rfl
theorem dksX3_birdOf_2 : cX3_birdOf.data.toList.drop 47 = dktX3_birdOf_2 := dk_seg dksX3_birdOf_1 23 rfl rfl
theorem dX3_birdOf_0 : decode cX3_birdOf 0 = .ok (.aload_n 0, 1) := dk_42 (dk_at dksX3_birdOf_0 0 rfl rfl)
theorem dX3_birdOf_1 : decode cX3_birdOf 1 = .ok (.iconst 1, 1) := dk_4 (dk_at dksX3_birdOf_0 1 rfl rfl)
theorem dX3_birdOf_2 : decode cX3_birdOf 2 = .ok (.aload_n 0, 1) := dk_42 (dk_at dksX3_birdOf_0 2 rfl rfl)
theorem dX3_birdOf_3 : decode cX3_birdOf 3 = .ok (.iload_n 1, 1) := dk_27 (dk_at dksX3_birdOf_0 3 rfl rfl)
theorem dX3_birdOf_4 : decode cX3_birdOf 4 = .ok (.invokevirtual 125, 3) := dk_182 0 125 (dk_at dksX3_birdOf_0 4 rfl rfl)
theorem dX3_birdOf_7 : decode cX3_birdOf 7 = .ok (.ifCond .ne 7, 3) := dk_154 0 7 (dk_at dksX3_birdOf_0 7 rfl rfl)
theorem dX3_birdOf_10 : decode cX3_birdOf 10 = .ok (.iconst 1, 1) := dk_4 (dk_at dksX3_birdOf_0 10 rfl rfl)
theorem dX3_birdOf_11 : decode cX3_birdOf 11 = .ok (.goto 4, 3) := dk_167 0 4 (dk_at dksX3_birdOf_0 11 rfl rfl)
theorem dX3_birdOf_14 : decode cX3_birdOf 14 = .ok (.iconst 0, 1) := dk_3 (dk_at dksX3_birdOf_0 14 rfl rfl)
theorem dX3_birdOf_15 : decode cX3_birdOf 15 = .ok (.invokevirtual 94, 3) := dk_182 0 94 (dk_at dksX3_birdOf_0 15 rfl rfl)
theorem dX3_birdOf_18 : decode cX3_birdOf 18 = .ok (.ifCond .ne 26, 3) := dk_154 0 26 (dk_at dksX3_birdOf_0 18 rfl rfl)
theorem dX3_birdOf_21 : decode cX3_birdOf 21 = .ok (.aload_n 0, 1) := dk_42 (dk_at dksX3_birdOf_0 21 rfl rfl)
theorem dX3_birdOf_22 : decode cX3_birdOf 22 = .ok (.iconst 2, 1) := dk_5 (dk_at dksX3_birdOf_0 22 rfl rfl)
theorem dX3_birdOf_23 : decode cX3_birdOf 23 = .ok (.iload_n 2, 1) := dk_28 (dk_at dksX3_birdOf_0 23 rfl rfl)
theorem dX3_birdOf_24 : decode cX3_birdOf 24 = .ok (.iconst 0, 1) := dk_3 (dk_at dksX3_birdOf_1 0 rfl rfl)
theorem dX3_birdOf_25 : decode cX3_birdOf 25 = .ok (.bipush 6, 2) := dk_16 6 (dk_at dksX3_birdOf_1 1 rfl rfl)
theorem dX3_birdOf_27 : decode cX3_birdOf 27 = .ok (.invokestatic 68, 3) := dk_184 0 68 (dk_at dksX3_birdOf_1 3 rfl rfl)
theorem dX3_birdOf_30 : decode cX3_birdOf 30 = .ok (.ifCond .ne 7, 3) := dk_154 0 7 (dk_at dksX3_birdOf_1 6 rfl rfl)
theorem dX3_birdOf_33 : decode cX3_birdOf 33 = .ok (.iconst 1, 1) := dk_4 (dk_at dksX3_birdOf_1 9 rfl rfl)
theorem dX3_birdOf_34 : decode cX3_birdOf 34 = .ok (.goto 4, 3) := dk_167 0 4 (dk_at dksX3_birdOf_1 10 rfl rfl)
theorem dX3_birdOf_37 : decode cX3_birdOf 37 = .ok (.iconst 0, 1) := dk_3 (dk_at dksX3_birdOf_1 13 rfl rfl)
theorem dX3_birdOf_38 : decode cX3_birdOf 38 = .ok (.invokevirtual 94, 3) := dk_182 0 94 (dk_at dksX3_birdOf_1 14 rfl rfl)
theorem dX3_birdOf_41 : decode cX3_birdOf 41 = .ok (.ifCond .eq 5, 3) := dk_153 0 5 (dk_at dksX3_birdOf_1 17 rfl rfl)
theorem dX3_birdOf_44 : decode cX3_birdOf 44 = .ok (.iconst 0, 1) := dk_3 (dk_at dksX3_birdOf_1 20 rfl rfl)
theorem dX3_birdOf_45 : decode cX3_birdOf 45 = .ok (.ireturn, 1) := dk_172 (dk_at dksX3_birdOf_1 21 rfl rfl)
theorem dX3_birdOf_46 : decode cX3_birdOf 46 = .ok (.iload_n 2, 1) := dk_28 (dk_at dksX3_birdOf_1 22 rfl rfl)
theorem dX3_birdOf_47 : decode cX3_birdOf 47 = .ok (.bipush 6, 2) := dk_16 6 (dk_at dksX3_birdOf_2 0 rfl rfl)
theorem dX3_birdOf_49 : decode cX3_birdOf 49 = .ok (.if_icmp .ne 11, 3) := dk_160 0 11 (dk_at dksX3_birdOf_2 2 rfl rfl)
theorem dX3_birdOf_52 : decode cX3_birdOf 52 = .ok (.aload_n 0, 1) := dk_42 (dk_at dksX3_birdOf_2 5 rfl rfl)
theorem dX3_birdOf_53 : decode cX3_birdOf 53 = .ok (.iload_n 1, 1) := dk_27 (dk_at dksX3_birdOf_2 6 rfl rfl)
theorem dX3_birdOf_54 : decode cX3_birdOf 54 = .ok (.invokevirtual 131, 3) := dk_182 0 131 (dk_at dksX3_birdOf_2 7 rfl rfl)
theorem dX3_birdOf_57 : decode cX3_birdOf 57 = .ok (.goto 9, 3) := dk_167 0 9 (dk_at dksX3_birdOf_2 10 rfl rfl)
theorem dX3_birdOf_60 : decode cX3_birdOf 60 = .ok (.aload_n 0, 1) := dk_42 (dk_at dksX3_birdOf_2 13 rfl rfl)
theorem dX3_birdOf_61 : decode cX3_birdOf 61 = .ok (.iload_n 1, 1) := dk_27 (dk_at dksX3_birdOf_2 14 rfl rfl)
theorem dX3_birdOf_62 : decode cX3_birdOf 62 = .ok (.iload_n 2, 1) := dk_28 (dk_at dksX3_birdOf_2 15 rfl rfl)
theorem dX3_birdOf_63 : decode cX3_birdOf 63 = .ok (.invokevirtual 98, 3) := dk_182 0 98 (dk_at dksX3_birdOf_2 16 rfl rfl)
theorem dX3_birdOf_66 : decode cX3_birdOf 66 = .ok (.ireturn, 1) := dk_172 (dk_at dksX3_birdOf_2 19 rfl rfl)
abbrev cX3_below : ByteArray := prog_14_method_29_code
def yX3_below : MethodName := ⟨RX3, "below", "(I)I"⟩
def dkwX3_below_2 : List UInt8 := [172]
abbrev dktX3_below_2 : List UInt8 := dkwX3_below_2 ++ []
def dkwX3_below_1 : List UInt8 := [27, 160, 0, 13, 4, 42, 29, 182, 0, 131, 96, 167, 0, 4, 3, 96, 61, 132, 3, 1, 167, 255, 218, 28]
abbrev dktX3_below_1 : List UInt8 := dkwX3_below_1 ++ dktX3_below_2
def dkwX3_below_0 : List UInt8 := [3, 61, 27, 4, 96, 62, 29, 42, 180, 0, 9, 16, 10, 46, 162, 0, 33, 28, 42, 29, 7, 182, 0, 98]
abbrev dktX3_below_0 : List UInt8 := dkwX3_below_0 ++ dktX3_below_1
theorem dksX3_below_0 : cX3_below.data.toList.drop 0 = dktX3_below_0 := by decide +kernel
theorem dksX3_below_1 : cX3_below.data.toList.drop 24 = dktX3_below_1 := dk_seg dksX3_below_0 24 rfl rfl
theorem dksX3_below_2 : cX3_below.data.toList.drop 48 = dktX3_below_2 := dk_seg dksX3_below_1 24 rfl rfl
theorem dX3_below_0 : decode cX3_below 0 = .ok (.iconst 0, 1) := dk_3 (dk_at dksX3_below_0 0 rfl rfl)
theorem dX3_below_1 : decode cX3_below 1 = .ok (.istore_n 2, 1) := dk_61 (dk_at dksX3_below_0 1 rfl rfl)
theorem dX3_below_2 : decode cX3_below 2 = .ok (.iload_n 1, 1) := dk_27 (dk_at dksX3_below_0 2 rfl rfl)
theorem dX3_below_3 : decode cX3_below 3 = .ok (.iconst 1, 1) := dk_4 (dk_at dksX3_below_0 3 rfl rfl)
theorem dX3_below_4 : decode cX3_below 4 = .ok (.iadd, 1) := dk_96 (dk_at dksX3_below_0 4 rfl rfl)
theorem dX3_below_5 : decode cX3_below 5 = .ok (.istore_n 3, 1) := dk_62 (dk_at dksX3_below_0 5 rfl rfl)
theorem dX3_below_6 : decode cX3_below 6 = .ok (.iload_n 3, 1) := dk_29 (dk_at dksX3_below_0 6 rfl rfl)
theorem dX3_below_7 : decode cX3_below 7 = .ok (.aload_n 0, 1) := dk_42 (dk_at dksX3_below_0 7 rfl rfl)
theorem dX3_below_8 : decode cX3_below 8 = .ok (.getfield 9, 3) := dk_180 0 9 (dk_at dksX3_below_0 8 rfl rfl)
theorem dX3_below_11 : decode cX3_below 11 = .ok (.bipush 10, 2) := dk_16 10 (dk_at dksX3_below_0 11 rfl rfl)
theorem dX3_below_13 : decode cX3_below 13 = .ok (.iaload, 1) := dk_46 (dk_at dksX3_below_0 13 rfl rfl)
theorem dX3_below_14 : decode cX3_below 14 = .ok (.if_icmp .ge 33, 3) := dk_162 0 33 (dk_at dksX3_below_0 14 rfl rfl)
theorem dX3_below_17 : decode cX3_below 17 = .ok (.iload_n 2, 1) := dk_28 (dk_at dksX3_below_0 17 rfl rfl)
theorem dX3_below_18 : decode cX3_below 18 = .ok (.aload_n 0, 1) := dk_42 (dk_at dksX3_below_0 18 rfl rfl)
theorem dX3_below_19 : decode cX3_below 19 = .ok (.iload_n 3, 1) := dk_29 (dk_at dksX3_below_0 19 rfl rfl)
theorem dX3_below_20 : decode cX3_below 20 = .ok (.iconst 4, 1) := dk_7 (dk_at dksX3_below_0 20 rfl rfl)
theorem dX3_below_21 : decode cX3_below 21 = .ok (.invokevirtual 98, 3) := dk_182 0 98 (dk_at dksX3_below_0 21 rfl rfl)
theorem dX3_below_24 : decode cX3_below 24 = .ok (.iload_n 1, 1) := dk_27 (dk_at dksX3_below_1 0 rfl rfl)
theorem dX3_below_25 : decode cX3_below 25 = .ok (.if_icmp .ne 13, 3) := dk_160 0 13 (dk_at dksX3_below_1 1 rfl rfl)
theorem dX3_below_28 : decode cX3_below 28 = .ok (.iconst 1, 1) := dk_4 (dk_at dksX3_below_1 4 rfl rfl)
theorem dX3_below_29 : decode cX3_below 29 = .ok (.aload_n 0, 1) := dk_42 (dk_at dksX3_below_1 5 rfl rfl)
theorem dX3_below_30 : decode cX3_below 30 = .ok (.iload_n 3, 1) := dk_29 (dk_at dksX3_below_1 6 rfl rfl)
theorem dX3_below_31 : decode cX3_below 31 = .ok (.invokevirtual 131, 3) := dk_182 0 131 (dk_at dksX3_below_1 7 rfl rfl)
theorem dX3_below_34 : decode cX3_below 34 = .ok (.iadd, 1) := dk_96 (dk_at dksX3_below_1 10 rfl rfl)
theorem dX3_below_35 : decode cX3_below 35 = .ok (.goto 4, 3) := dk_167 0 4 (dk_at dksX3_below_1 11 rfl rfl)
theorem dX3_below_38 : decode cX3_below 38 = .ok (.iconst 0, 1) := dk_3 (dk_at dksX3_below_1 14 rfl rfl)
theorem dX3_below_39 : decode cX3_below 39 = .ok (.iadd, 1) := dk_96 (dk_at dksX3_below_1 15 rfl rfl)
theorem dX3_below_40 : decode cX3_below 40 = .ok (.istore_n 2, 1) := dk_61 (dk_at dksX3_below_1 16 rfl rfl)
theorem dX3_below_41 : decode cX3_below 41 = .ok (.iinc 3 1, 3) := dk_132 3 1 (dk_at dksX3_below_1 17 rfl rfl)
theorem dX3_below_44 : decode cX3_below 44 = .ok (.goto (-38), 3) := dk_167 255 218 (dk_at dksX3_below_1 20 rfl rfl)
theorem dX3_below_47 : decode cX3_below 47 = .ok (.iload_n 2, 1) := dk_28 (dk_at dksX3_below_1 23 rfl rfl)
theorem dX3_below_48 : decode cX3_below 48 = .ok (.ireturn, 1) := dk_172 (dk_at dksX3_below_2 0 rfl rfl)
abbrev cX3_goesTo : ByteArray := prog_14_method_32_code
def yX3_goesTo : MethodName := ⟨RX3, "goesTo", "(I)I"⟩
def dkwX3_goesTo_1 : List UInt8 := [167, 0, 8, 42, 27, 182, 0, 140, 172]
abbrev dktX3_goesTo_1 : List UInt8 := dkwX3_goesTo_1 ++ []
def dkwX3_goesTo_0 : List UInt8 := [42, 4, 42, 27, 182, 0, 125, 154, 0, 7, 4, 167, 0, 4, 3, 182, 0, 94, 153, 0, 7, 3]
abbrev dktX3_goesTo_0 : List UInt8 := dkwX3_goesTo_0 ++ dktX3_goesTo_1
theorem dksX3_goesTo_0 : cX3_goesTo.data.toList.drop 0 = dktX3_goesTo_0 := by decide +kernel
theorem dksX3_goesTo_1 : cX3_goesTo.data.toList.drop 22 = dktX3_goesTo_1 := dk_seg dksX3_goesTo_0 22 rfl rfl
theorem dX3_goesTo_0 : decode cX3_goesTo 0 = .ok (.aload_n 0, 1) := dk_42 (dk_at dksX3_goesTo_0 0 rfl rfl)
theorem dX3_goesTo_1 : decode cX3_goesTo 1 = .ok (.iconst 1, 1) := dk_4 (dk_at dksX3_goesTo_0 1 rfl rfl)
theorem dX3_goesTo_2 : decode cX3_goesTo 2 = .ok (.aload_n 0, 1) := dk_42 (dk_at dksX3_goesTo_0 2 rfl rfl)
theorem dX3_goesTo_3 : decode cX3_goesTo 3 = .ok (.iload_n 1, 1) := dk_27 (dk_at dksX3_goesTo_0 3 rfl rfl)
theorem dX3_goesTo_4 : decode cX3_goesTo 4 = .ok (.invokevirtual 125, 3) := dk_182 0 125 (dk_at dksX3_goesTo_0 4 rfl rfl)
theorem dX3_goesTo_7 : decode cX3_goesTo 7 = .ok (.ifCond .ne 7, 3) := dk_154 0 7 (dk_at dksX3_goesTo_0 7 rfl rfl)
theorem dX3_goesTo_10 : decode cX3_goesTo 10 = .ok (.iconst 1, 1) := dk_4 (dk_at dksX3_goesTo_0 10 rfl rfl)
theorem dX3_goesTo_11 : decode cX3_goesTo 11 = .ok (.goto 4, 3) := dk_167 0 4 (dk_at dksX3_goesTo_0 11 rfl rfl)
theorem dX3_goesTo_14 : decode cX3_goesTo 14 = .ok (.iconst 0, 1) := dk_3 (dk_at dksX3_goesTo_0 14 rfl rfl)
theorem dX3_goesTo_15 : decode cX3_goesTo 15 = .ok (.invokevirtual 94, 3) := dk_182 0 94 (dk_at dksX3_goesTo_0 15 rfl rfl)
theorem dX3_goesTo_18 : decode cX3_goesTo 18 = .ok (.ifCond .eq 7, 3) := dk_153 0 7 (dk_at dksX3_goesTo_0 18 rfl rfl)
theorem dX3_goesTo_21 : decode cX3_goesTo 21 = .ok (.iconst 0, 1) := dk_3 (dk_at dksX3_goesTo_0 21 rfl rfl)
theorem dX3_goesTo_22 : decode cX3_goesTo 22 = .ok (.goto 8, 3) := dk_167 0 8 (dk_at dksX3_goesTo_1 0 rfl rfl)
theorem dX3_goesTo_25 : decode cX3_goesTo 25 = .ok (.aload_n 0, 1) := dk_42 (dk_at dksX3_goesTo_1 3 rfl rfl)
theorem dX3_goesTo_26 : decode cX3_goesTo 26 = .ok (.iload_n 1, 1) := dk_27 (dk_at dksX3_goesTo_1 4 rfl rfl)
theorem dX3_goesTo_27 : decode cX3_goesTo 27 = .ok (.invokevirtual 140, 3) := dk_182 0 140 (dk_at dksX3_goesTo_1 5 rfl rfl)
theorem dX3_goesTo_30 : decode cX3_goesTo 30 = .ok (.ireturn, 1) := dk_172 (dk_at dksX3_goesTo_1 8 rfl rfl)
abbrev cX3_goal : ByteArray := prog_14_method_31_code
def yX3_goal : MethodName := ⟨RX3, "goal", "(I)I"⟩
def dkwX3_goal_1 : List UInt8 := [182, 0, 137, 172]
abbrev dktX3_goal_1 : List UInt8 := dkwX3_goal_1 ++ []
def dkwX3_goal_0 : List UInt8 := [42, 27, 4, 182, 0, 98, 61, 42, 27, 182, 0, 134, 153, 0, 7, 28, 167, 0, 10, 42, 28, 16, 6]
abbrev dktX3_goal_0 : List UInt8 := dkwX3_goal_0 ++ dktX3_goal_1
theorem dksX3_goal_0 : cX3_goal.data.toList.drop 0 = dktX3_goal_0 := by decide +kernel
theorem dksX3_goal_1 : cX3_goal.data.toList.drop 23 = dktX3_goal_1 := dk_seg dksX3_goal_0 23 rfl rfl
theorem dX3_goal_0 : decode cX3_goal 0 = .ok (.aload_n 0, 1) := dk_42 (dk_at dksX3_goal_0 0 rfl rfl)
theorem dX3_goal_1 : decode cX3_goal 1 = .ok (.iload_n 1, 1) := dk_27 (dk_at dksX3_goal_0 1 rfl rfl)
theorem dX3_goal_2 : decode cX3_goal 2 = .ok (.iconst 1, 1) := dk_4 (dk_at dksX3_goal_0 2 rfl rfl)
theorem dX3_goal_3 : decode cX3_goal 3 = .ok (.invokevirtual 98, 3) := dk_182 0 98 (dk_at dksX3_goal_0 3 rfl rfl)
theorem dX3_goal_6 : decode cX3_goal 6 = .ok (.istore_n 2, 1) := dk_61 (dk_at dksX3_goal_0 6 rfl rfl)
theorem dX3_goal_7 : decode cX3_goal 7 = .ok (.aload_n 0, 1) := dk_42 (dk_at dksX3_goal_0 7 rfl rfl)
theorem dX3_goal_8 : decode cX3_goal 8 = .ok (.iload_n 1, 1) := dk_27 (dk_at dksX3_goal_0 8 rfl rfl)
theorem dX3_goal_9 : decode cX3_goal 9 = .ok (.invokevirtual 134, 3) := dk_182 0 134 (dk_at dksX3_goal_0 9 rfl rfl)
theorem dX3_goal_12 : decode cX3_goal 12 = .ok (.ifCond .eq 7, 3) := dk_153 0 7 (dk_at dksX3_goal_0 12 rfl rfl)
theorem dX3_goal_15 : decode cX3_goal 15 = .ok (.iload_n 2, 1) := dk_28 (dk_at dksX3_goal_0 15 rfl rfl)
theorem dX3_goal_16 : decode cX3_goal 16 = .ok (.goto 10, 3) := dk_167 0 10 (dk_at dksX3_goal_0 16 rfl rfl)
theorem dX3_goal_19 : decode cX3_goal 19 = .ok (.aload_n 0, 1) := dk_42 (dk_at dksX3_goal_0 19 rfl rfl)
theorem dX3_goal_20 : decode cX3_goal 20 = .ok (.iload_n 2, 1) := dk_28 (dk_at dksX3_goal_0 20 rfl rfl)
theorem dX3_goal_21 : decode cX3_goal 21 = .ok (.bipush 6, 2) := dk_16 6 (dk_at dksX3_goal_0 21 rfl rfl)
theorem dX3_goal_23 : decode cX3_goal 23 = .ok (.invokevirtual 137, 3) := dk_182 0 137 (dk_at dksX3_goal_1 0 rfl rfl)
theorem dX3_goal_26 : decode cX3_goal 26 = .ok (.ireturn, 1) := dk_172 (dk_at dksX3_goal_1 3 rfl rfl)
abbrev cX3_hasEggs : ByteArray := prog_14_method_22_code
def yX3_hasEggs : MethodName := ⟨RX3, "hasEggs", "(I)Z"⟩
def dkwX3_hasEggs_0 : List UInt8 := [42, 27, 182, 0, 101, 153, 0, 16, 42, 27, 5, 182, 0, 98, 158, 0, 7, 4, 167, 0, 4, 3, 172]
abbrev dktX3_hasEggs_0 : List UInt8 := dkwX3_hasEggs_0 ++ []
theorem dksX3_hasEggs_0 : cX3_hasEggs.data.toList.drop 0 = dktX3_hasEggs_0 := by decide +kernel
theorem dX3_hasEggs_0 : decode cX3_hasEggs 0 = .ok (.aload_n 0, 1) := dk_42 (dk_at dksX3_hasEggs_0 0 rfl rfl)
theorem dX3_hasEggs_1 : decode cX3_hasEggs 1 = .ok (.iload_n 1, 1) := dk_27 (dk_at dksX3_hasEggs_0 1 rfl rfl)
theorem dX3_hasEggs_2 : decode cX3_hasEggs 2 = .ok (.invokevirtual 101, 3) := dk_182 0 101 (dk_at dksX3_hasEggs_0 2 rfl rfl)
theorem dX3_hasEggs_5 : decode cX3_hasEggs 5 = .ok (.ifCond .eq 16, 3) := dk_153 0 16 (dk_at dksX3_hasEggs_0 5 rfl rfl)
theorem dX3_hasEggs_8 : decode cX3_hasEggs 8 = .ok (.aload_n 0, 1) := dk_42 (dk_at dksX3_hasEggs_0 8 rfl rfl)
theorem dX3_hasEggs_9 : decode cX3_hasEggs 9 = .ok (.iload_n 1, 1) := dk_27 (dk_at dksX3_hasEggs_0 9 rfl rfl)
theorem dX3_hasEggs_10 : decode cX3_hasEggs 10 = .ok (.iconst 2, 1) := dk_5 (dk_at dksX3_hasEggs_0 10 rfl rfl)
theorem dX3_hasEggs_11 : decode cX3_hasEggs 11 = .ok (.invokevirtual 98, 3) := dk_182 0 98 (dk_at dksX3_hasEggs_0 11 rfl rfl)
theorem dX3_hasEggs_14 : decode cX3_hasEggs 14 = .ok (.ifCond .le 7, 3) := dk_158 0 7 (dk_at dksX3_hasEggs_0 14 rfl rfl)
theorem dX3_hasEggs_17 : decode cX3_hasEggs 17 = .ok (.iconst 1, 1) := dk_4 (dk_at dksX3_hasEggs_0 17 rfl rfl)
theorem dX3_hasEggs_18 : decode cX3_hasEggs 18 = .ok (.goto 4, 3) := dk_167 0 4 (dk_at dksX3_hasEggs_0 18 rfl rfl)
theorem dX3_hasEggs_21 : decode cX3_hasEggs 21 = .ok (.iconst 0, 1) := dk_3 (dk_at dksX3_hasEggs_0 21 rfl rfl)
theorem dX3_hasEggs_22 : decode cX3_hasEggs 22 = .ok (.ireturn, 1) := dk_172 (dk_at dksX3_hasEggs_0 22 rfl rfl)
abbrev cX3_goes : ByteArray := prog_14_method_16_code
def yX3_goes : MethodName := ⟨RX3, "goes", "(II)I"⟩
def dkwX3_goes_1 : List UInt8 := [167, 0, 4, 27, 172]
abbrev dktX3_goes_1 : List UInt8 := dkwX3_goes_1 ++ []
def dkwX3_goes_0 : List UInt8 := [42, 27, 182, 0, 87, 62, 42, 180, 0, 9, 16, 22, 29, 96, 46, 28, 163, 0, 11, 29, 27, 184, 0, 83]
abbrev dktX3_goes_0 : List UInt8 := dkwX3_goes_0 ++ dktX3_goes_1
theorem dksX3_goes_0 : cX3_goes.data.toList.drop 0 = dktX3_goes_0 := by decide +kernel
theorem dksX3_goes_1 : cX3_goes.data.toList.drop 24 = dktX3_goes_1 := dk_seg dksX3_goes_0 24 rfl rfl
theorem dX3_goes_0 : decode cX3_goes 0 = .ok (.aload_n 0, 1) := dk_42 (dk_at dksX3_goes_0 0 rfl rfl)
theorem dX3_goes_1 : decode cX3_goes 1 = .ok (.iload_n 1, 1) := dk_27 (dk_at dksX3_goes_0 1 rfl rfl)
theorem dX3_goes_2 : decode cX3_goes 2 = .ok (.invokevirtual 87, 3) := dk_182 0 87 (dk_at dksX3_goes_0 2 rfl rfl)
theorem dX3_goes_5 : decode cX3_goes 5 = .ok (.istore_n 3, 1) := dk_62 (dk_at dksX3_goes_0 5 rfl rfl)
theorem dX3_goes_6 : decode cX3_goes 6 = .ok (.aload_n 0, 1) := dk_42 (dk_at dksX3_goes_0 6 rfl rfl)
theorem dX3_goes_7 : decode cX3_goes 7 = .ok (.getfield 9, 3) := dk_180 0 9 (dk_at dksX3_goes_0 7 rfl rfl)
theorem dX3_goes_10 : decode cX3_goes 10 = .ok (.bipush 22, 2) := dk_16 22 (dk_at dksX3_goes_0 10 rfl rfl)
theorem dX3_goes_12 : decode cX3_goes 12 = .ok (.iload_n 3, 1) := dk_29 (dk_at dksX3_goes_0 12 rfl rfl)
theorem dX3_goes_13 : decode cX3_goes 13 = .ok (.iadd, 1) := dk_96 (dk_at dksX3_goes_0 13 rfl rfl)
theorem dX3_goes_14 : decode cX3_goes 14 = .ok (.iaload, 1) := dk_46 (dk_at dksX3_goes_0 14 rfl rfl)
theorem dX3_goes_15 : decode cX3_goes 15 = .ok (.iload_n 2, 1) := dk_28 (dk_at dksX3_goes_0 15 rfl rfl)
theorem dX3_goes_16 : decode cX3_goes 16 = .ok (.if_icmp .gt 11, 3) := dk_163 0 11 (dk_at dksX3_goes_0 16 rfl rfl)
theorem dX3_goes_19 : decode cX3_goes 19 = .ok (.iload_n 3, 1) := dk_29 (dk_at dksX3_goes_0 19 rfl rfl)
theorem dX3_goes_20 : decode cX3_goes 20 = .ok (.iload_n 1, 1) := dk_27 (dk_at dksX3_goes_0 20 rfl rfl)
theorem dX3_goes_21 : decode cX3_goes 21 = .ok (.invokestatic 83, 3) := dk_184 0 83 (dk_at dksX3_goes_0 21 rfl rfl)
theorem dX3_goes_24 : decode cX3_goes 24 = .ok (.goto 4, 3) := dk_167 0 4 (dk_at dksX3_goes_1 0 rfl rfl)
theorem dX3_goes_27 : decode cX3_goes 27 = .ok (.iload_n 1, 1) := dk_27 (dk_at dksX3_goes_1 3 rfl rfl)
theorem dX3_goes_28 : decode cX3_goes 28 = .ok (.ireturn, 1) := dk_172 (dk_at dksX3_goes_1 4 rfl rfl)
abbrev cX3_wayOut : ByteArray := prog_14_method_15_code
def yX3_wayOut : MethodName := ⟨RX3, "wayOut", "(I)I"⟩
def dkwX3_wayOut_4 : List UInt8 := [132, 3, 1, 167, 255, 162, 28, 172]
abbrev dktX3_wayOut_4 : List UInt8 := dkwX3_wayOut_4 ++ []
def dkwX3_wayOut_3 : List UInt8 := [96, 46, 160, 0, 20, 29, 27, 184, 0, 83, 28, 27, 184, 0, 83, 162, 0, 7, 29, 167, 0, 4, 28, 61]
abbrev dktX3_wayOut_3 : List UInt8 := dkwX3_wayOut_3 ++ dktX3_wayOut_4
def dkwX3_wayOut_2 : List UInt8 := [3, 54, 4, 21, 4, 154, 0, 37, 42, 180, 0, 9, 16, 22, 29, 96, 46, 42, 180, 0, 9, 16, 22, 28]
abbrev dktX3_wayOut_2 : List UInt8 := dkwX3_wayOut_2 ++ dktX3_wayOut_3
def dkwX3_wayOut_1 : List UInt8 := [180, 0, 9, 16, 22, 29, 96, 46, 42, 180, 0, 9, 16, 22, 28, 96, 46, 162, 0, 7, 4, 167, 0, 4]
abbrev dktX3_wayOut_1 : List UInt8 := dkwX3_wayOut_1 ++ dktX3_wayOut_2
def dkwX3_wayOut_0 : List UInt8 := [2, 61, 3, 62, 29, 16, 12, 162, 0, 94, 29, 27, 184, 0, 79, 153, 0, 80, 28, 155, 0, 24, 42]
abbrev dktX3_wayOut_0 : List UInt8 := dkwX3_wayOut_0 ++ dktX3_wayOut_1
theorem dksX3_wayOut_0 : cX3_wayOut.data.toList.drop 0 = dktX3_wayOut_0 := by decide +kernel
theorem dksX3_wayOut_1 : cX3_wayOut.data.toList.drop 23 = dktX3_wayOut_1 := dk_seg dksX3_wayOut_0 23 rfl rfl
theorem dksX3_wayOut_2 : cX3_wayOut.data.toList.drop 47 = dktX3_wayOut_2 := dk_seg dksX3_wayOut_1 24 rfl rfl
theorem dksX3_wayOut_3 : cX3_wayOut.data.toList.drop 71 = dktX3_wayOut_3 := dk_seg dksX3_wayOut_2 24 rfl rfl
theorem dksX3_wayOut_4 : cX3_wayOut.data.toList.drop 95 = dktX3_wayOut_4 := dk_seg dksX3_wayOut_3 24 rfl rfl
theorem dX3_wayOut_0 : decode cX3_wayOut 0 = .ok (.iconst (-1), 1) := dk_2 (dk_at dksX3_wayOut_0 0 rfl rfl)
theorem dX3_wayOut_1 : decode cX3_wayOut 1 = .ok (.istore_n 2, 1) := dk_61 (dk_at dksX3_wayOut_0 1 rfl rfl)
theorem dX3_wayOut_2 : decode cX3_wayOut 2 = .ok (.iconst 0, 1) := dk_3 (dk_at dksX3_wayOut_0 2 rfl rfl)
theorem dX3_wayOut_3 : decode cX3_wayOut 3 = .ok (.istore_n 3, 1) := dk_62 (dk_at dksX3_wayOut_0 3 rfl rfl)
theorem dX3_wayOut_4 : decode cX3_wayOut 4 = .ok (.iload_n 3, 1) := dk_29 (dk_at dksX3_wayOut_0 4 rfl rfl)
theorem dX3_wayOut_5 : decode cX3_wayOut 5 = .ok (.bipush 12, 2) := dk_16 12 (dk_at dksX3_wayOut_0 5 rfl rfl)
theorem dX3_wayOut_7 : decode cX3_wayOut 7 = .ok (.if_icmp .ge 94, 3) := dk_162 0 94 (dk_at dksX3_wayOut_0 7 rfl rfl)
theorem dX3_wayOut_10 : decode cX3_wayOut 10 = .ok (.iload_n 3, 1) := dk_29 (dk_at dksX3_wayOut_0 10 rfl rfl)
theorem dX3_wayOut_11 : decode cX3_wayOut 11 = .ok (.iload_n 1, 1) := dk_27 (dk_at dksX3_wayOut_0 11 rfl rfl)
theorem dX3_wayOut_12 : decode cX3_wayOut 12 = .ok (.invokestatic 79, 3) := dk_184 0 79 (dk_at dksX3_wayOut_0 12 rfl rfl)
theorem dX3_wayOut_15 : decode cX3_wayOut 15 = .ok (.ifCond .eq 80, 3) := dk_153 0 80 (dk_at dksX3_wayOut_0 15 rfl rfl)
theorem dX3_wayOut_18 : decode cX3_wayOut 18 = .ok (.iload_n 2, 1) := dk_28 (dk_at dksX3_wayOut_0 18 rfl rfl)
theorem dX3_wayOut_19 : decode cX3_wayOut 19 = .ok (.ifCond .lt 24, 3) := dk_155 0 24 (dk_at dksX3_wayOut_0 19 rfl rfl)
theorem dX3_wayOut_22 : decode cX3_wayOut 22 = .ok (.aload_n 0, 1) := dk_42 (dk_at dksX3_wayOut_0 22 rfl rfl)
theorem dX3_wayOut_23 : decode cX3_wayOut 23 = .ok (.getfield 9, 3) := dk_180 0 9 (dk_at dksX3_wayOut_1 0 rfl rfl)
theorem dX3_wayOut_26 : decode cX3_wayOut 26 = .ok (.bipush 22, 2) := dk_16 22 (dk_at dksX3_wayOut_1 3 rfl rfl)
theorem dX3_wayOut_28 : decode cX3_wayOut 28 = .ok (.iload_n 3, 1) := dk_29 (dk_at dksX3_wayOut_1 5 rfl rfl)
theorem dX3_wayOut_29 : decode cX3_wayOut 29 = .ok (.iadd, 1) := dk_96 (dk_at dksX3_wayOut_1 6 rfl rfl)
theorem dX3_wayOut_30 : decode cX3_wayOut 30 = .ok (.iaload, 1) := dk_46 (dk_at dksX3_wayOut_1 7 rfl rfl)
theorem dX3_wayOut_31 : decode cX3_wayOut 31 = .ok (.aload_n 0, 1) := dk_42 (dk_at dksX3_wayOut_1 8 rfl rfl)
theorem dX3_wayOut_32 : decode cX3_wayOut 32 = .ok (.getfield 9, 3) := dk_180 0 9 (dk_at dksX3_wayOut_1 9 rfl rfl)
theorem dX3_wayOut_35 : decode cX3_wayOut 35 = .ok (.bipush 22, 2) := dk_16 22 (dk_at dksX3_wayOut_1 12 rfl rfl)
theorem dX3_wayOut_37 : decode cX3_wayOut 37 = .ok (.iload_n 2, 1) := dk_28 (dk_at dksX3_wayOut_1 14 rfl rfl)
theorem dX3_wayOut_38 : decode cX3_wayOut 38 = .ok (.iadd, 1) := dk_96 (dk_at dksX3_wayOut_1 15 rfl rfl)
theorem dX3_wayOut_39 : decode cX3_wayOut 39 = .ok (.iaload, 1) := dk_46 (dk_at dksX3_wayOut_1 16 rfl rfl)
theorem dX3_wayOut_40 : decode cX3_wayOut 40 = .ok (.if_icmp .ge 7, 3) := dk_162 0 7 (dk_at dksX3_wayOut_1 17 rfl rfl)
theorem dX3_wayOut_43 : decode cX3_wayOut 43 = .ok (.iconst 1, 1) := dk_4 (dk_at dksX3_wayOut_1 20 rfl rfl)
theorem dX3_wayOut_44 : decode cX3_wayOut 44 = .ok (.goto 4, 3) := dk_167 0 4 (dk_at dksX3_wayOut_1 21 rfl rfl)
theorem dX3_wayOut_47 : decode cX3_wayOut 47 = .ok (.iconst 0, 1) := dk_3 (dk_at dksX3_wayOut_2 0 rfl rfl)
theorem dX3_wayOut_48 : decode cX3_wayOut 48 = .ok (.istore 4, 2) := dk_54 4 (dk_at dksX3_wayOut_2 1 rfl rfl)
theorem dX3_wayOut_50 : decode cX3_wayOut 50 = .ok (.iload 4, 2) := dk_21 4 (dk_at dksX3_wayOut_2 3 rfl rfl)
theorem dX3_wayOut_52 : decode cX3_wayOut 52 = .ok (.ifCond .ne 37, 3) := dk_154 0 37 (dk_at dksX3_wayOut_2 5 rfl rfl)
theorem dX3_wayOut_55 : decode cX3_wayOut 55 = .ok (.aload_n 0, 1) := dk_42 (dk_at dksX3_wayOut_2 8 rfl rfl)
theorem dX3_wayOut_56 : decode cX3_wayOut 56 = .ok (.getfield 9, 3) := dk_180 0 9 (dk_at dksX3_wayOut_2 9 rfl rfl)
theorem dX3_wayOut_59 : decode cX3_wayOut 59 = .ok (.bipush 22, 2) := dk_16 22 (dk_at dksX3_wayOut_2 12 rfl rfl)
theorem dX3_wayOut_61 : decode cX3_wayOut 61 = .ok (.iload_n 3, 1) := dk_29 (dk_at dksX3_wayOut_2 14 rfl rfl)
theorem dX3_wayOut_62 : decode cX3_wayOut 62 = .ok (.iadd, 1) := dk_96 (dk_at dksX3_wayOut_2 15 rfl rfl)
theorem dX3_wayOut_63 : decode cX3_wayOut 63 = .ok (.iaload, 1) := dk_46 (dk_at dksX3_wayOut_2 16 rfl rfl)
theorem dX3_wayOut_64 : decode cX3_wayOut 64 = .ok (.aload_n 0, 1) := dk_42 (dk_at dksX3_wayOut_2 17 rfl rfl)
theorem dX3_wayOut_65 : decode cX3_wayOut 65 = .ok (.getfield 9, 3) := dk_180 0 9 (dk_at dksX3_wayOut_2 18 rfl rfl)
theorem dX3_wayOut_68 : decode cX3_wayOut 68 = .ok (.bipush 22, 2) := dk_16 22 (dk_at dksX3_wayOut_2 21 rfl rfl)
theorem dX3_wayOut_70 : decode cX3_wayOut 70 = .ok (.iload_n 2, 1) := dk_28 (dk_at dksX3_wayOut_2 23 rfl rfl)
theorem dX3_wayOut_71 : decode cX3_wayOut 71 = .ok (.iadd, 1) := dk_96 (dk_at dksX3_wayOut_3 0 rfl rfl)
theorem dX3_wayOut_72 : decode cX3_wayOut 72 = .ok (.iaload, 1) := dk_46 (dk_at dksX3_wayOut_3 1 rfl rfl)
theorem dX3_wayOut_73 : decode cX3_wayOut 73 = .ok (.if_icmp .ne 20, 3) := dk_160 0 20 (dk_at dksX3_wayOut_3 2 rfl rfl)
theorem dX3_wayOut_76 : decode cX3_wayOut 76 = .ok (.iload_n 3, 1) := dk_29 (dk_at dksX3_wayOut_3 5 rfl rfl)
theorem dX3_wayOut_77 : decode cX3_wayOut 77 = .ok (.iload_n 1, 1) := dk_27 (dk_at dksX3_wayOut_3 6 rfl rfl)
theorem dX3_wayOut_78 : decode cX3_wayOut 78 = .ok (.invokestatic 83, 3) := dk_184 0 83 (dk_at dksX3_wayOut_3 7 rfl rfl)
theorem dX3_wayOut_81 : decode cX3_wayOut 81 = .ok (.iload_n 2, 1) := dk_28 (dk_at dksX3_wayOut_3 10 rfl rfl)
theorem dX3_wayOut_82 : decode cX3_wayOut 82 = .ok (.iload_n 1, 1) := dk_27 (dk_at dksX3_wayOut_3 11 rfl rfl)
theorem dX3_wayOut_83 : decode cX3_wayOut 83 = .ok (.invokestatic 83, 3) := dk_184 0 83 (dk_at dksX3_wayOut_3 12 rfl rfl)
theorem dX3_wayOut_86 : decode cX3_wayOut 86 = .ok (.if_icmp .ge 7, 3) := dk_162 0 7 (dk_at dksX3_wayOut_3 15 rfl rfl)
theorem dX3_wayOut_89 : decode cX3_wayOut 89 = .ok (.iload_n 3, 1) := dk_29 (dk_at dksX3_wayOut_3 18 rfl rfl)
theorem dX3_wayOut_90 : decode cX3_wayOut 90 = .ok (.goto 4, 3) := dk_167 0 4 (dk_at dksX3_wayOut_3 19 rfl rfl)
theorem dX3_wayOut_93 : decode cX3_wayOut 93 = .ok (.iload_n 2, 1) := dk_28 (dk_at dksX3_wayOut_3 22 rfl rfl)
theorem dX3_wayOut_94 : decode cX3_wayOut 94 = .ok (.istore_n 2, 1) := dk_61 (dk_at dksX3_wayOut_3 23 rfl rfl)
theorem dX3_wayOut_95 : decode cX3_wayOut 95 = .ok (.iinc 3 1, 3) := dk_132 3 1 (dk_at dksX3_wayOut_4 0 rfl rfl)
theorem dX3_wayOut_98 : decode cX3_wayOut 98 = .ok (.goto (-94), 3) := dk_167 255 162 (dk_at dksX3_wayOut_4 3 rfl rfl)
theorem dX3_wayOut_101 : decode cX3_wayOut 101 = .ok (.iload_n 2, 1) := dk_28 (dk_at dksX3_wayOut_4 6 rfl rfl)
theorem dX3_wayOut_102 : decode cX3_wayOut 102 = .ok (.ireturn, 1) := dk_172 (dk_at dksX3_wayOut_4 7 rfl rfl)
abbrev cX3_isBeside : ByteArray := prog_14_method_13_code
def yX3_isBeside : MethodName := ⟨RX3, "isBeside", "(II)Z"⟩
def dkwX3_isBeside_0 : List UInt8 := [26, 184, 0, 72, 27, 159, 0, 11, 26, 184, 0, 76, 27, 160, 0, 7, 4, 167, 0, 4, 3, 172]
abbrev dktX3_isBeside_0 : List UInt8 := dkwX3_isBeside_0 ++ []
theorem dksX3_isBeside_0 : cX3_isBeside.data.toList.drop 0 = dktX3_isBeside_0 := by decide +kernel
theorem dX3_isBeside_0 : decode cX3_isBeside 0 = .ok (.iload_n 0, 1) := dk_26 (dk_at dksX3_isBeside_0 0 rfl rfl)
theorem dX3_isBeside_1 : decode cX3_isBeside 1 = .ok (.invokestatic 72, 3) := dk_184 0 72 (dk_at dksX3_isBeside_0 1 rfl rfl)
theorem dX3_isBeside_4 : decode cX3_isBeside 4 = .ok (.iload_n 1, 1) := dk_27 (dk_at dksX3_isBeside_0 4 rfl rfl)
theorem dX3_isBeside_5 : decode cX3_isBeside 5 = .ok (.if_icmp .eq 11, 3) := dk_159 0 11 (dk_at dksX3_isBeside_0 5 rfl rfl)
theorem dX3_isBeside_8 : decode cX3_isBeside 8 = .ok (.iload_n 0, 1) := dk_26 (dk_at dksX3_isBeside_0 8 rfl rfl)
theorem dX3_isBeside_9 : decode cX3_isBeside 9 = .ok (.invokestatic 76, 3) := dk_184 0 76 (dk_at dksX3_isBeside_0 9 rfl rfl)
theorem dX3_isBeside_12 : decode cX3_isBeside 12 = .ok (.iload_n 1, 1) := dk_27 (dk_at dksX3_isBeside_0 12 rfl rfl)
theorem dX3_isBeside_13 : decode cX3_isBeside 13 = .ok (.if_icmp .ne 7, 3) := dk_160 0 7 (dk_at dksX3_isBeside_0 13 rfl rfl)
theorem dX3_isBeside_16 : decode cX3_isBeside 16 = .ok (.iconst 1, 1) := dk_4 (dk_at dksX3_isBeside_0 16 rfl rfl)
theorem dX3_isBeside_17 : decode cX3_isBeside 17 = .ok (.goto 4, 3) := dk_167 0 4 (dk_at dksX3_isBeside_0 17 rfl rfl)
theorem dX3_isBeside_20 : decode cX3_isBeside 20 = .ok (.iconst 0, 1) := dk_3 (dk_at dksX3_isBeside_0 20 rfl rfl)
theorem dX3_isBeside_21 : decode cX3_isBeside 21 = .ok (.ireturn, 1) := dk_172 (dk_at dksX3_isBeside_0 21 rfl rfl)
abbrev cX3_firstLawn : ByteArray := prog_14_method_11_code
def yX3_firstLawn : MethodName := ⟨RX3, "firstLawn", "(I)I"⟩
def dkwX3_firstLawn_0 : List UInt8 := [26, 16, 6, 162, 0, 15, 6, 26, 5, 108, 104, 26, 5, 112, 96, 167, 0, 7, 26, 16, 6, 100, 172]
abbrev dktX3_firstLawn_0 : List UInt8 := dkwX3_firstLawn_0 ++ []
theorem dksX3_firstLawn_0 : cX3_firstLawn.data.toList.drop 0 = dktX3_firstLawn_0 := by decide +kernel
theorem dX3_firstLawn_0 : decode cX3_firstLawn 0 = .ok (.iload_n 0, 1) := dk_26 (dk_at dksX3_firstLawn_0 0 rfl rfl)
theorem dX3_firstLawn_1 : decode cX3_firstLawn 1 = .ok (.bipush 6, 2) := dk_16 6 (dk_at dksX3_firstLawn_0 1 rfl rfl)
theorem dX3_firstLawn_3 : decode cX3_firstLawn 3 = .ok (.if_icmp .ge 15, 3) := dk_162 0 15 (dk_at dksX3_firstLawn_0 3 rfl rfl)
theorem dX3_firstLawn_6 : decode cX3_firstLawn 6 = .ok (.iconst 3, 1) := dk_6 (dk_at dksX3_firstLawn_0 6 rfl rfl)
theorem dX3_firstLawn_7 : decode cX3_firstLawn 7 = .ok (.iload_n 0, 1) := dk_26 (dk_at dksX3_firstLawn_0 7 rfl rfl)
theorem dX3_firstLawn_8 : decode cX3_firstLawn 8 = .ok (.iconst 2, 1) := dk_5 (dk_at dksX3_firstLawn_0 8 rfl rfl)
theorem dX3_firstLawn_9 : decode cX3_firstLawn 9 = .ok (.idiv, 1) := dk_108 (dk_at dksX3_firstLawn_0 9 rfl rfl)
theorem dX3_firstLawn_10 : decode cX3_firstLawn 10 = .ok (.imul, 1) := dk_104 (dk_at dksX3_firstLawn_0 10 rfl rfl)
theorem dX3_firstLawn_11 : decode cX3_firstLawn 11 = .ok (.iload_n 0, 1) := dk_26 (dk_at dksX3_firstLawn_0 11 rfl rfl)
theorem dX3_firstLawn_12 : decode cX3_firstLawn 12 = .ok (.iconst 2, 1) := dk_5 (dk_at dksX3_firstLawn_0 12 rfl rfl)
theorem dX3_firstLawn_13 : decode cX3_firstLawn 13 = .ok (.irem, 1) := dk_112 (dk_at dksX3_firstLawn_0 13 rfl rfl)
theorem dX3_firstLawn_14 : decode cX3_firstLawn 14 = .ok (.iadd, 1) := dk_96 (dk_at dksX3_firstLawn_0 14 rfl rfl)
theorem dX3_firstLawn_15 : decode cX3_firstLawn 15 = .ok (.goto 7, 3) := dk_167 0 7 (dk_at dksX3_firstLawn_0 15 rfl rfl)
theorem dX3_firstLawn_18 : decode cX3_firstLawn 18 = .ok (.iload_n 0, 1) := dk_26 (dk_at dksX3_firstLawn_0 18 rfl rfl)
theorem dX3_firstLawn_19 : decode cX3_firstLawn 19 = .ok (.bipush 6, 2) := dk_16 6 (dk_at dksX3_firstLawn_0 19 rfl rfl)
theorem dX3_firstLawn_21 : decode cX3_firstLawn 21 = .ok (.isub, 1) := dk_100 (dk_at dksX3_firstLawn_0 21 rfl rfl)
theorem dX3_firstLawn_22 : decode cX3_firstLawn 22 = .ok (.ireturn, 1) := dk_172 (dk_at dksX3_firstLawn_0 22 rfl rfl)
abbrev cX3_secondLawn : ByteArray := prog_14_method_12_code
def yX3_secondLawn : MethodName := ⟨RX3, "secondLawn", "(I)I"⟩
def dkwX3_secondLawn_0 : List UInt8 := [26, 184, 0, 72, 26, 16, 6, 162, 0, 7, 4, 167, 0, 4, 6, 96, 172]
abbrev dktX3_secondLawn_0 : List UInt8 := dkwX3_secondLawn_0 ++ []
theorem dksX3_secondLawn_0 : cX3_secondLawn.data.toList.drop 0 = dktX3_secondLawn_0 := by decide +kernel
theorem dX3_secondLawn_0 : decode cX3_secondLawn 0 = .ok (.iload_n 0, 1) := dk_26 (dk_at dksX3_secondLawn_0 0 rfl rfl)
theorem dX3_secondLawn_1 : decode cX3_secondLawn 1 = .ok (.invokestatic 72, 3) := dk_184 0 72 (dk_at dksX3_secondLawn_0 1 rfl rfl)
theorem dX3_secondLawn_4 : decode cX3_secondLawn 4 = .ok (.iload_n 0, 1) := dk_26 (dk_at dksX3_secondLawn_0 4 rfl rfl)
theorem dX3_secondLawn_5 : decode cX3_secondLawn 5 = .ok (.bipush 6, 2) := dk_16 6 (dk_at dksX3_secondLawn_0 5 rfl rfl)
theorem dX3_secondLawn_7 : decode cX3_secondLawn 7 = .ok (.if_icmp .ge 7, 3) := dk_162 0 7 (dk_at dksX3_secondLawn_0 7 rfl rfl)
theorem dX3_secondLawn_10 : decode cX3_secondLawn 10 = .ok (.iconst 1, 1) := dk_4 (dk_at dksX3_secondLawn_0 10 rfl rfl)
theorem dX3_secondLawn_11 : decode cX3_secondLawn 11 = .ok (.goto 4, 3) := dk_167 0 4 (dk_at dksX3_secondLawn_0 11 rfl rfl)
theorem dX3_secondLawn_14 : decode cX3_secondLawn 14 = .ok (.iconst 3, 1) := dk_6 (dk_at dksX3_secondLawn_0 14 rfl rfl)
theorem dX3_secondLawn_15 : decode cX3_secondLawn 15 = .ok (.iadd, 1) := dk_96 (dk_at dksX3_secondLawn_0 15 rfl rfl)
theorem dX3_secondLawn_16 : decode cX3_secondLawn 16 = .ok (.ireturn, 1) := dk_172 (dk_at dksX3_secondLawn_0 16 rfl rfl)
abbrev cX3_across : ByteArray := prog_14_method_14_code
def yX3_across : MethodName := ⟨RX3, "across", "(II)I"⟩
def dkwX3_across_0 : List UInt8 := [26, 184, 0, 72, 26, 184, 0, 76, 96, 27, 100, 172]
abbrev dktX3_across_0 : List UInt8 := dkwX3_across_0 ++ []
theorem dksX3_across_0 : cX3_across.data.toList.drop 0 = dktX3_across_0 := by decide +kernel
theorem dX3_across_0 : decode cX3_across 0 = .ok (.iload_n 0, 1) := dk_26 (dk_at dksX3_across_0 0 rfl rfl)
theorem dX3_across_1 : decode cX3_across 1 = .ok (.invokestatic 72, 3) := dk_184 0 72 (dk_at dksX3_across_0 1 rfl rfl)
theorem dX3_across_4 : decode cX3_across 4 = .ok (.iload_n 0, 1) := dk_26 (dk_at dksX3_across_0 4 rfl rfl)
theorem dX3_across_5 : decode cX3_across 5 = .ok (.invokestatic 76, 3) := dk_184 0 76 (dk_at dksX3_across_0 5 rfl rfl)
theorem dX3_across_8 : decode cX3_across 8 = .ok (.iadd, 1) := dk_96 (dk_at dksX3_across_0 8 rfl rfl)
theorem dX3_across_9 : decode cX3_across 9 = .ok (.iload_n 1, 1) := dk_27 (dk_at dksX3_across_0 9 rfl rfl)
theorem dX3_across_10 : decode cX3_across 10 = .ok (.isub, 1) := dk_100 (dk_at dksX3_across_0 10 rfl rfl)
theorem dX3_across_11 : decode cX3_across 11 = .ok (.ireturn, 1) := dk_172 (dk_at dksX3_across_0 11 rfl rfl)
abbrev cX3_ordered : ByteArray := prog_14_method_34_code
def yX3_ordered : MethodName := ⟨RX3, "ordered", "(I)I"⟩
def dkwX3_ordered_2 : List UInt8 := [172]
abbrev dktX3_ordered_2 : List UInt8 := dkwX3_ordered_2 ++ []
def dkwX3_ordered_1 : List UInt8 := [182, 0, 94, 153, 0, 5, 3, 172, 42, 3, 181, 0, 143, 42, 2, 182, 0, 146, 42, 180, 0, 27, 27, 46]
abbrev dktX3_ordered_1 : List UInt8 := dkwX3_ordered_1 ++ dktX3_ordered_2
def dkwX3_ordered_0 : List UInt8 := [42, 4, 27, 3, 42, 180, 0, 9, 16, 10, 46, 4, 100, 184, 0, 68, 154, 0, 7, 4, 167, 0, 4, 3]
abbrev dktX3_ordered_0 : List UInt8 := dkwX3_ordered_0 ++ dktX3_ordered_1
theorem dksX3_ordered_0 : cX3_ordered.data.toList.drop 0 = dktX3_ordered_0 := by decide +kernel
theorem dksX3_ordered_1 : cX3_ordered.data.toList.drop 24 = dktX3_ordered_1 := dk_seg dksX3_ordered_0 24 rfl rfl
theorem dksX3_ordered_2 : cX3_ordered.data.toList.drop 48 = dktX3_ordered_2 := dk_seg dksX3_ordered_1 24 rfl rfl
theorem dX3_ordered_0 : decode cX3_ordered 0 = .ok (.aload_n 0, 1) := dk_42 (dk_at dksX3_ordered_0 0 rfl rfl)
theorem dX3_ordered_1 : decode cX3_ordered 1 = .ok (.iconst 1, 1) := dk_4 (dk_at dksX3_ordered_0 1 rfl rfl)
theorem dX3_ordered_2 : decode cX3_ordered 2 = .ok (.iload_n 1, 1) := dk_27 (dk_at dksX3_ordered_0 2 rfl rfl)
theorem dX3_ordered_3 : decode cX3_ordered 3 = .ok (.iconst 0, 1) := dk_3 (dk_at dksX3_ordered_0 3 rfl rfl)
theorem dX3_ordered_4 : decode cX3_ordered 4 = .ok (.aload_n 0, 1) := dk_42 (dk_at dksX3_ordered_0 4 rfl rfl)
theorem dX3_ordered_5 : decode cX3_ordered 5 = .ok (.getfield 9, 3) := dk_180 0 9 (dk_at dksX3_ordered_0 5 rfl rfl)
theorem dX3_ordered_8 : decode cX3_ordered 8 = .ok (.bipush 10, 2) := dk_16 10 (dk_at dksX3_ordered_0 8 rfl rfl)
theorem dX3_ordered_10 : decode cX3_ordered 10 = .ok (.iaload, 1) := dk_46 (dk_at dksX3_ordered_0 10 rfl rfl)
theorem dX3_ordered_11 : decode cX3_ordered 11 = .ok (.iconst 1, 1) := dk_4 (dk_at dksX3_ordered_0 11 rfl rfl)
theorem dX3_ordered_12 : decode cX3_ordered 12 = .ok (.isub, 1) := dk_100 (dk_at dksX3_ordered_0 12 rfl rfl)
theorem dX3_ordered_13 : decode cX3_ordered 13 = .ok (.invokestatic 68, 3) := dk_184 0 68 (dk_at dksX3_ordered_0 13 rfl rfl)
theorem dX3_ordered_16 : decode cX3_ordered 16 = .ok (.ifCond .ne 7, 3) := dk_154 0 7 (dk_at dksX3_ordered_0 16 rfl rfl)
theorem dX3_ordered_19 : decode cX3_ordered 19 = .ok (.iconst 1, 1) := dk_4 (dk_at dksX3_ordered_0 19 rfl rfl)
theorem dX3_ordered_20 : decode cX3_ordered 20 = .ok (.goto 4, 3) := dk_167 0 4 (dk_at dksX3_ordered_0 20 rfl rfl)
theorem dX3_ordered_23 : decode cX3_ordered 23 = .ok (.iconst 0, 1) := dk_3 (dk_at dksX3_ordered_0 23 rfl rfl)
theorem dX3_ordered_24 : decode cX3_ordered 24 = .ok (.invokevirtual 94, 3) := dk_182 0 94 (dk_at dksX3_ordered_1 0 rfl rfl)
theorem dX3_ordered_27 : decode cX3_ordered 27 = .ok (.ifCond .eq 5, 3) := dk_153 0 5 (dk_at dksX3_ordered_1 3 rfl rfl)
theorem dX3_ordered_30 : decode cX3_ordered 30 = .ok (.iconst 0, 1) := dk_3 (dk_at dksX3_ordered_1 6 rfl rfl)
theorem dX3_ordered_31 : decode cX3_ordered 31 = .ok (.ireturn, 1) := dk_172 (dk_at dksX3_ordered_1 7 rfl rfl)
theorem dX3_ordered_32 : decode cX3_ordered 32 = .ok (.aload_n 0, 1) := dk_42 (dk_at dksX3_ordered_1 8 rfl rfl)
theorem dX3_ordered_33 : decode cX3_ordered 33 = .ok (.iconst 0, 1) := dk_3 (dk_at dksX3_ordered_1 9 rfl rfl)
theorem dX3_ordered_34 : decode cX3_ordered 34 = .ok (.putfield 143, 3) := dk_181 0 143 (dk_at dksX3_ordered_1 10 rfl rfl)
theorem dX3_ordered_37 : decode cX3_ordered 37 = .ok (.aload_n 0, 1) := dk_42 (dk_at dksX3_ordered_1 13 rfl rfl)
theorem dX3_ordered_38 : decode cX3_ordered 38 = .ok (.iconst (-1), 1) := dk_2 (dk_at dksX3_ordered_1 14 rfl rfl)
theorem dX3_ordered_39 : decode cX3_ordered 39 = .ok (.invokevirtual 146, 3) := dk_182 0 146 (dk_at dksX3_ordered_1 15 rfl rfl)
theorem dX3_ordered_42 : decode cX3_ordered 42 = .ok (.aload_n 0, 1) := dk_42 (dk_at dksX3_ordered_1 18 rfl rfl)
theorem dX3_ordered_43 : decode cX3_ordered 43 = .ok (.getfield 27, 3) := dk_180 0 27 (dk_at dksX3_ordered_1 19 rfl rfl)
theorem dX3_ordered_46 : decode cX3_ordered 46 = .ok (.iload_n 1, 1) := dk_27 (dk_at dksX3_ordered_1 22 rfl rfl)
theorem dX3_ordered_47 : decode cX3_ordered 47 = .ok (.iaload, 1) := dk_46 (dk_at dksX3_ordered_1 23 rfl rfl)
theorem dX3_ordered_48 : decode cX3_ordered 48 = .ok (.ireturn, 1) := dk_172 (dk_at dksX3_ordered_2 0 rfl rfl)
abbrev cX3_follow : ByteArray := prog_14_method_33_code
def yX3_follow : MethodName := ⟨RX3, "follow", "(I)V"⟩
def dkwX3_follow_2 : List UInt8 := [132, 2, 1, 167, 255, 207, 177]
abbrev dktX3_follow_2 : List UInt8 := dkwX3_follow_2 ++ []
def dkwX3_follow_1 : List UInt8 := [180, 0, 27, 42, 180, 0, 143, 28, 79, 42, 89, 180, 0, 143, 4, 96, 181, 0, 143, 42, 28, 182, 0, 146]
abbrev dktX3_follow_1 : List UInt8 := dkwX3_follow_1 ++ dktX3_follow_2
def dkwX3_follow_0 : List UInt8 := [3, 61, 28, 42, 180, 0, 9, 16, 10, 46, 162, 0, 44, 42, 28, 7, 182, 0, 98, 27, 160, 0, 28, 42]
abbrev dktX3_follow_0 : List UInt8 := dkwX3_follow_0 ++ dktX3_follow_1
theorem dksX3_follow_0 : cX3_follow.data.toList.drop 0 = dktX3_follow_0 := by decide +kernel
theorem dksX3_follow_1 : cX3_follow.data.toList.drop 24 = dktX3_follow_1 := dk_seg dksX3_follow_0 24 rfl rfl
theorem dksX3_follow_2 : cX3_follow.data.toList.drop 48 = dktX3_follow_2 := dk_seg dksX3_follow_1 24 rfl rfl
theorem dX3_follow_0 : decode cX3_follow 0 = .ok (.iconst 0, 1) := dk_3 (dk_at dksX3_follow_0 0 rfl rfl)
theorem dX3_follow_1 : decode cX3_follow 1 = .ok (.istore_n 2, 1) := dk_61 (dk_at dksX3_follow_0 1 rfl rfl)
theorem dX3_follow_2 : decode cX3_follow 2 = .ok (.iload_n 2, 1) := dk_28 (dk_at dksX3_follow_0 2 rfl rfl)
theorem dX3_follow_3 : decode cX3_follow 3 = .ok (.aload_n 0, 1) := dk_42 (dk_at dksX3_follow_0 3 rfl rfl)
theorem dX3_follow_4 : decode cX3_follow 4 = .ok (.getfield 9, 3) := dk_180 0 9 (dk_at dksX3_follow_0 4 rfl rfl)
theorem dX3_follow_7 : decode cX3_follow 7 = .ok (.bipush 10, 2) := dk_16 10 (dk_at dksX3_follow_0 7 rfl rfl)
theorem dX3_follow_9 : decode cX3_follow 9 = .ok (.iaload, 1) := dk_46 (dk_at dksX3_follow_0 9 rfl rfl)
theorem dX3_follow_10 : decode cX3_follow 10 = .ok (.if_icmp .ge 44, 3) := dk_162 0 44 (dk_at dksX3_follow_0 10 rfl rfl)
theorem dX3_follow_13 : decode cX3_follow 13 = .ok (.aload_n 0, 1) := dk_42 (dk_at dksX3_follow_0 13 rfl rfl)
theorem dX3_follow_14 : decode cX3_follow 14 = .ok (.iload_n 2, 1) := dk_28 (dk_at dksX3_follow_0 14 rfl rfl)
theorem dX3_follow_15 : decode cX3_follow 15 = .ok (.iconst 4, 1) := dk_7 (dk_at dksX3_follow_0 15 rfl rfl)
theorem dX3_follow_16 : decode cX3_follow 16 = .ok (.invokevirtual 98, 3) := dk_182 0 98 (dk_at dksX3_follow_0 16 rfl rfl)
theorem dX3_follow_19 : decode cX3_follow 19 = .ok (.iload_n 1, 1) := dk_27 (dk_at dksX3_follow_0 19 rfl rfl)
theorem dX3_follow_20 : decode cX3_follow 20 = .ok (.if_icmp .ne 28, 3) := dk_160 0 28 (dk_at dksX3_follow_0 20 rfl rfl)
theorem dX3_follow_23 : decode cX3_follow 23 = .ok (.aload_n 0, 1) := dk_42 (dk_at dksX3_follow_0 23 rfl rfl)
theorem dX3_follow_24 : decode cX3_follow 24 = .ok (.getfield 27, 3) := dk_180 0 27 (dk_at dksX3_follow_1 0 rfl rfl)
theorem dX3_follow_27 : decode cX3_follow 27 = .ok (.aload_n 0, 1) := dk_42 (dk_at dksX3_follow_1 3 rfl rfl)
theorem dX3_follow_28 : decode cX3_follow 28 = .ok (.getfield 143, 3) := dk_180 0 143 (dk_at dksX3_follow_1 4 rfl rfl)
theorem dX3_follow_31 : decode cX3_follow 31 = .ok (.iload_n 2, 1) := dk_28 (dk_at dksX3_follow_1 7 rfl rfl)
theorem dX3_follow_32 : decode cX3_follow 32 = .ok (.iastore, 1) := dk_79 (dk_at dksX3_follow_1 8 rfl rfl)
theorem dX3_follow_33 : decode cX3_follow 33 = .ok (.aload_n 0, 1) := dk_42 (dk_at dksX3_follow_1 9 rfl rfl)
theorem dX3_follow_34 : decode cX3_follow 34 = .ok (.dup, 1) := dk_89 (dk_at dksX3_follow_1 10 rfl rfl)
theorem dX3_follow_35 : decode cX3_follow 35 = .ok (.getfield 143, 3) := dk_180 0 143 (dk_at dksX3_follow_1 11 rfl rfl)
theorem dX3_follow_38 : decode cX3_follow 38 = .ok (.iconst 1, 1) := dk_4 (dk_at dksX3_follow_1 14 rfl rfl)
theorem dX3_follow_39 : decode cX3_follow 39 = .ok (.iadd, 1) := dk_96 (dk_at dksX3_follow_1 15 rfl rfl)
theorem dX3_follow_40 : decode cX3_follow 40 = .ok (.putfield 143, 3) := dk_181 0 143 (dk_at dksX3_follow_1 16 rfl rfl)
theorem dX3_follow_43 : decode cX3_follow 43 = .ok (.aload_n 0, 1) := dk_42 (dk_at dksX3_follow_1 19 rfl rfl)
theorem dX3_follow_44 : decode cX3_follow 44 = .ok (.iload_n 2, 1) := dk_28 (dk_at dksX3_follow_1 20 rfl rfl)
theorem dX3_follow_45 : decode cX3_follow 45 = .ok (.invokevirtual 146, 3) := dk_182 0 146 (dk_at dksX3_follow_1 21 rfl rfl)
theorem dX3_follow_48 : decode cX3_follow 48 = .ok (.iinc 2 1, 3) := dk_132 2 1 (dk_at dksX3_follow_2 0 rfl rfl)
theorem dX3_follow_51 : decode cX3_follow 51 = .ok (.goto (-49), 3) := dk_167 255 207 (dk_at dksX3_follow_2 3 rfl rfl)
theorem dX3_follow_54 : decode cX3_follow 54 = .ok (.return_, 1) := dk_177 (dk_at dksX3_follow_2 6 rfl rfl)
abbrev cX3_fox : ByteArray := prog_14_method_35_code
def yX3_fox : MethodName := ⟨RX3, "fox", "()I"⟩
def dkwX3_fox_0 : List UInt8 := [42, 3, 181, 0, 41, 42, 180, 0, 9, 4, 46, 172]
abbrev dktX3_fox_0 : List UInt8 := dkwX3_fox_0 ++ []
theorem dksX3_fox_0 : cX3_fox.data.toList.drop 0 = dktX3_fox_0 := by decide +kernel
theorem dX3_fox_0 : decode cX3_fox 0 = .ok (.aload_n 0, 1) := dk_42 (dk_at dksX3_fox_0 0 rfl rfl)
theorem dX3_fox_1 : decode cX3_fox 1 = .ok (.iconst 0, 1) := dk_3 (dk_at dksX3_fox_0 1 rfl rfl)
theorem dX3_fox_2 : decode cX3_fox 2 = .ok (.putfield 41, 3) := dk_181 0 41 (dk_at dksX3_fox_0 2 rfl rfl)
theorem dX3_fox_5 : decode cX3_fox 5 = .ok (.aload_n 0, 1) := dk_42 (dk_at dksX3_fox_0 5 rfl rfl)
theorem dX3_fox_6 : decode cX3_fox 6 = .ok (.getfield 9, 3) := dk_180 0 9 (dk_at dksX3_fox_0 6 rfl rfl)
theorem dX3_fox_9 : decode cX3_fox 9 = .ok (.iconst 1, 1) := dk_4 (dk_at dksX3_fox_0 9 rfl rfl)
theorem dX3_fox_10 : decode cX3_fox 10 = .ok (.iaload, 1) := dk_46 (dk_at dksX3_fox_0 10 rfl rfl)
theorem dX3_fox_11 : decode cX3_fox 11 = .ok (.ireturn, 1) := dk_172 (dk_at dksX3_fox_0 11 rfl rfl)
abbrev cX3_lawnOf : ByteArray := prog_14_method_37_code
def yX3_lawnOf : MethodName := ⟨RX3, "lawnOf", "(II)I"⟩
def dkwX3_lawnOf_6 : List UInt8 := [46, 172]
abbrev dktX3_lawnOf_6 : List UInt8 := dkwX3_lawnOf_6 ++ []
def dkwX3_lawnOf_5 : List UInt8 := [7, 42, 180, 0, 9, 16, 11, 46, 182, 0, 150, 172, 42, 180, 0, 9, 16, 22, 42, 27, 182, 0, 87, 96]
abbrev dktX3_lawnOf_5 : List UInt8 := dkwX3_lawnOf_5 ++ dktX3_lawnOf_6
def dkwX3_lawnOf_4 : List UInt8 := [182, 0, 150, 172, 42, 27, 16, 118, 6, 42, 180, 0, 9, 16, 12, 46, 182, 0, 150, 172, 42, 27, 16, 106]
abbrev dktX3_lawnOf_4 : List UInt8 := dkwX3_lawnOf_4 ++ dktX3_lawnOf_5
def dkwX3_lawnOf_3 : List UInt8 := [42, 180, 0, 9, 16, 13, 27, 96, 46, 172, 42, 27, 16, 35, 16, 6, 42, 180, 0, 9, 16, 10, 46]
abbrev dktX3_lawnOf_3 : List UInt8 := dkwX3_lawnOf_3 ++ dktX3_lawnOf_4
def dkwX3_lawnOf_2 : List UInt8 := [170, 0, 0, 0, 0, 0, 90, 0, 0, 0, 0, 0, 0, 0, 3, 0, 0, 0, 31, 0, 0, 0, 41, 0, 0, 0, 58, 0, 0, 0, 74]
abbrev dktX3_lawnOf_2 : List UInt8 := dkwX3_lawnOf_2 ++ dktX3_lawnOf_3
def dkwX3_lawnOf_1 : List UInt8 := [7, 184, 0, 68, 154, 0, 7, 4, 167, 0, 4, 3, 182, 0, 94, 153, 0, 5, 3, 172, 28]
abbrev dktX3_lawnOf_1 : List UInt8 := dkwX3_lawnOf_1 ++ dktX3_lawnOf_2
def dkwX3_lawnOf_0 : List UInt8 := [42, 4, 27, 184, 0, 112, 154, 0, 7, 4, 167, 0, 4, 3, 182, 0, 94, 154, 0, 25, 42, 5, 28, 3]
abbrev dktX3_lawnOf_0 : List UInt8 := dkwX3_lawnOf_0 ++ dktX3_lawnOf_1
theorem dksX3_lawnOf_0 : cX3_lawnOf.data.toList.drop 0 = dktX3_lawnOf_0 := by decide +kernel
theorem dksX3_lawnOf_1 : cX3_lawnOf.data.toList.drop 24 = dktX3_lawnOf_1 := dk_seg dksX3_lawnOf_0 24 rfl rfl
theorem dksX3_lawnOf_2 : cX3_lawnOf.data.toList.drop 45 = dktX3_lawnOf_2 := dk_seg dksX3_lawnOf_1 21 rfl rfl
theorem dksX3_lawnOf_3 : cX3_lawnOf.data.toList.drop 76 = dktX3_lawnOf_3 := dk_seg dksX3_lawnOf_2 31 rfl rfl
theorem dksX3_lawnOf_4 : cX3_lawnOf.data.toList.drop 99 = dktX3_lawnOf_4 := dk_seg dksX3_lawnOf_3 23 rfl rfl
theorem dksX3_lawnOf_5 : cX3_lawnOf.data.toList.drop 123 = dktX3_lawnOf_5 := dk_seg dksX3_lawnOf_4 24 rfl rfl
theorem dksX3_lawnOf_6 : cX3_lawnOf.data.toList.drop 147 = dktX3_lawnOf_6 := dk_seg dksX3_lawnOf_5 24 rfl rfl
theorem dX3_lawnOf_0 : decode cX3_lawnOf 0 = .ok (.aload_n 0, 1) := dk_42 (dk_at dksX3_lawnOf_0 0 rfl rfl)
theorem dX3_lawnOf_1 : decode cX3_lawnOf 1 = .ok (.iconst 1, 1) := dk_4 (dk_at dksX3_lawnOf_0 1 rfl rfl)
theorem dX3_lawnOf_2 : decode cX3_lawnOf 2 = .ok (.iload_n 1, 1) := dk_27 (dk_at dksX3_lawnOf_0 2 rfl rfl)
theorem dX3_lawnOf_3 : decode cX3_lawnOf 3 = .ok (.invokestatic 112, 3) := dk_184 0 112 (dk_at dksX3_lawnOf_0 3 rfl rfl)
theorem dX3_lawnOf_6 : decode cX3_lawnOf 6 = .ok (.ifCond .ne 7, 3) := dk_154 0 7 (dk_at dksX3_lawnOf_0 6 rfl rfl)
theorem dX3_lawnOf_9 : decode cX3_lawnOf 9 = .ok (.iconst 1, 1) := dk_4 (dk_at dksX3_lawnOf_0 9 rfl rfl)
theorem dX3_lawnOf_10 : decode cX3_lawnOf 10 = .ok (.goto 4, 3) := dk_167 0 4 (dk_at dksX3_lawnOf_0 10 rfl rfl)
theorem dX3_lawnOf_13 : decode cX3_lawnOf 13 = .ok (.iconst 0, 1) := dk_3 (dk_at dksX3_lawnOf_0 13 rfl rfl)
theorem dX3_lawnOf_14 : decode cX3_lawnOf 14 = .ok (.invokevirtual 94, 3) := dk_182 0 94 (dk_at dksX3_lawnOf_0 14 rfl rfl)
theorem dX3_lawnOf_17 : decode cX3_lawnOf 17 = .ok (.ifCond .ne 25, 3) := dk_154 0 25 (dk_at dksX3_lawnOf_0 17 rfl rfl)
theorem dX3_lawnOf_20 : decode cX3_lawnOf 20 = .ok (.aload_n 0, 1) := dk_42 (dk_at dksX3_lawnOf_0 20 rfl rfl)
theorem dX3_lawnOf_21 : decode cX3_lawnOf 21 = .ok (.iconst 2, 1) := dk_5 (dk_at dksX3_lawnOf_0 21 rfl rfl)
theorem dX3_lawnOf_22 : decode cX3_lawnOf 22 = .ok (.iload_n 2, 1) := dk_28 (dk_at dksX3_lawnOf_0 22 rfl rfl)
theorem dX3_lawnOf_23 : decode cX3_lawnOf 23 = .ok (.iconst 0, 1) := dk_3 (dk_at dksX3_lawnOf_0 23 rfl rfl)
theorem dX3_lawnOf_24 : decode cX3_lawnOf 24 = .ok (.iconst 4, 1) := dk_7 (dk_at dksX3_lawnOf_1 0 rfl rfl)
theorem dX3_lawnOf_25 : decode cX3_lawnOf 25 = .ok (.invokestatic 68, 3) := dk_184 0 68 (dk_at dksX3_lawnOf_1 1 rfl rfl)
theorem dX3_lawnOf_28 : decode cX3_lawnOf 28 = .ok (.ifCond .ne 7, 3) := dk_154 0 7 (dk_at dksX3_lawnOf_1 4 rfl rfl)
theorem dX3_lawnOf_31 : decode cX3_lawnOf 31 = .ok (.iconst 1, 1) := dk_4 (dk_at dksX3_lawnOf_1 7 rfl rfl)
theorem dX3_lawnOf_32 : decode cX3_lawnOf 32 = .ok (.goto 4, 3) := dk_167 0 4 (dk_at dksX3_lawnOf_1 8 rfl rfl)
theorem dX3_lawnOf_35 : decode cX3_lawnOf 35 = .ok (.iconst 0, 1) := dk_3 (dk_at dksX3_lawnOf_1 11 rfl rfl)
theorem dX3_lawnOf_36 : decode cX3_lawnOf 36 = .ok (.invokevirtual 94, 3) := dk_182 0 94 (dk_at dksX3_lawnOf_1 12 rfl rfl)
theorem dX3_lawnOf_39 : decode cX3_lawnOf 39 = .ok (.ifCond .eq 5, 3) := dk_153 0 5 (dk_at dksX3_lawnOf_1 15 rfl rfl)
theorem dX3_lawnOf_42 : decode cX3_lawnOf 42 = .ok (.iconst 0, 1) := dk_3 (dk_at dksX3_lawnOf_1 18 rfl rfl)
theorem dX3_lawnOf_43 : decode cX3_lawnOf 43 = .ok (.ireturn, 1) := dk_172 (dk_at dksX3_lawnOf_1 19 rfl rfl)
theorem dX3_lawnOf_44 : decode cX3_lawnOf 44 = .ok (.iload_n 2, 1) := dk_28 (dk_at dksX3_lawnOf_1 20 rfl rfl)
theorem dX3_lawnOf_45 : decode cX3_lawnOf 45 = .ok (.tableswitch 90 0 3 #[31, 41, 58, 74], 31) := by decide +kernel
theorem dX3_lawnOf_76 : decode cX3_lawnOf 76 = .ok (.aload_n 0, 1) := dk_42 (dk_at dksX3_lawnOf_3 0 rfl rfl)
theorem dX3_lawnOf_77 : decode cX3_lawnOf 77 = .ok (.getfield 9, 3) := dk_180 0 9 (dk_at dksX3_lawnOf_3 1 rfl rfl)
theorem dX3_lawnOf_80 : decode cX3_lawnOf 80 = .ok (.bipush 13, 2) := dk_16 13 (dk_at dksX3_lawnOf_3 4 rfl rfl)
theorem dX3_lawnOf_82 : decode cX3_lawnOf 82 = .ok (.iload_n 1, 1) := dk_27 (dk_at dksX3_lawnOf_3 6 rfl rfl)
theorem dX3_lawnOf_83 : decode cX3_lawnOf 83 = .ok (.iadd, 1) := dk_96 (dk_at dksX3_lawnOf_3 7 rfl rfl)
theorem dX3_lawnOf_84 : decode cX3_lawnOf 84 = .ok (.iaload, 1) := dk_46 (dk_at dksX3_lawnOf_3 8 rfl rfl)
theorem dX3_lawnOf_85 : decode cX3_lawnOf 85 = .ok (.ireturn, 1) := dk_172 (dk_at dksX3_lawnOf_3 9 rfl rfl)
theorem dX3_lawnOf_86 : decode cX3_lawnOf 86 = .ok (.aload_n 0, 1) := dk_42 (dk_at dksX3_lawnOf_3 10 rfl rfl)
theorem dX3_lawnOf_87 : decode cX3_lawnOf 87 = .ok (.iload_n 1, 1) := dk_27 (dk_at dksX3_lawnOf_3 11 rfl rfl)
theorem dX3_lawnOf_88 : decode cX3_lawnOf 88 = .ok (.bipush 35, 2) := dk_16 35 (dk_at dksX3_lawnOf_3 12 rfl rfl)
theorem dX3_lawnOf_90 : decode cX3_lawnOf 90 = .ok (.bipush 6, 2) := dk_16 6 (dk_at dksX3_lawnOf_3 14 rfl rfl)
theorem dX3_lawnOf_92 : decode cX3_lawnOf 92 = .ok (.aload_n 0, 1) := dk_42 (dk_at dksX3_lawnOf_3 16 rfl rfl)
theorem dX3_lawnOf_93 : decode cX3_lawnOf 93 = .ok (.getfield 9, 3) := dk_180 0 9 (dk_at dksX3_lawnOf_3 17 rfl rfl)
theorem dX3_lawnOf_96 : decode cX3_lawnOf 96 = .ok (.bipush 10, 2) := dk_16 10 (dk_at dksX3_lawnOf_3 20 rfl rfl)
theorem dX3_lawnOf_98 : decode cX3_lawnOf 98 = .ok (.iaload, 1) := dk_46 (dk_at dksX3_lawnOf_3 22 rfl rfl)
theorem dX3_lawnOf_99 : decode cX3_lawnOf 99 = .ok (.invokevirtual 150, 3) := dk_182 0 150 (dk_at dksX3_lawnOf_4 0 rfl rfl)
theorem dX3_lawnOf_102 : decode cX3_lawnOf 102 = .ok (.ireturn, 1) := dk_172 (dk_at dksX3_lawnOf_4 3 rfl rfl)
theorem dX3_lawnOf_103 : decode cX3_lawnOf 103 = .ok (.aload_n 0, 1) := dk_42 (dk_at dksX3_lawnOf_4 4 rfl rfl)
theorem dX3_lawnOf_104 : decode cX3_lawnOf 104 = .ok (.iload_n 1, 1) := dk_27 (dk_at dksX3_lawnOf_4 5 rfl rfl)
theorem dX3_lawnOf_105 : decode cX3_lawnOf 105 = .ok (.bipush 118, 2) := dk_16 118 (dk_at dksX3_lawnOf_4 6 rfl rfl)
theorem dX3_lawnOf_107 : decode cX3_lawnOf 107 = .ok (.iconst 3, 1) := dk_6 (dk_at dksX3_lawnOf_4 8 rfl rfl)
theorem dX3_lawnOf_108 : decode cX3_lawnOf 108 = .ok (.aload_n 0, 1) := dk_42 (dk_at dksX3_lawnOf_4 9 rfl rfl)
theorem dX3_lawnOf_109 : decode cX3_lawnOf 109 = .ok (.getfield 9, 3) := dk_180 0 9 (dk_at dksX3_lawnOf_4 10 rfl rfl)
theorem dX3_lawnOf_112 : decode cX3_lawnOf 112 = .ok (.bipush 12, 2) := dk_16 12 (dk_at dksX3_lawnOf_4 13 rfl rfl)
theorem dX3_lawnOf_114 : decode cX3_lawnOf 114 = .ok (.iaload, 1) := dk_46 (dk_at dksX3_lawnOf_4 15 rfl rfl)
theorem dX3_lawnOf_115 : decode cX3_lawnOf 115 = .ok (.invokevirtual 150, 3) := dk_182 0 150 (dk_at dksX3_lawnOf_4 16 rfl rfl)
theorem dX3_lawnOf_118 : decode cX3_lawnOf 118 = .ok (.ireturn, 1) := dk_172 (dk_at dksX3_lawnOf_4 19 rfl rfl)
theorem dX3_lawnOf_119 : decode cX3_lawnOf 119 = .ok (.aload_n 0, 1) := dk_42 (dk_at dksX3_lawnOf_4 20 rfl rfl)
theorem dX3_lawnOf_120 : decode cX3_lawnOf 120 = .ok (.iload_n 1, 1) := dk_27 (dk_at dksX3_lawnOf_4 21 rfl rfl)
theorem dX3_lawnOf_121 : decode cX3_lawnOf 121 = .ok (.bipush 106, 2) := dk_16 106 (dk_at dksX3_lawnOf_4 22 rfl rfl)
theorem dX3_lawnOf_123 : decode cX3_lawnOf 123 = .ok (.iconst 4, 1) := dk_7 (dk_at dksX3_lawnOf_5 0 rfl rfl)
theorem dX3_lawnOf_124 : decode cX3_lawnOf 124 = .ok (.aload_n 0, 1) := dk_42 (dk_at dksX3_lawnOf_5 1 rfl rfl)
theorem dX3_lawnOf_125 : decode cX3_lawnOf 125 = .ok (.getfield 9, 3) := dk_180 0 9 (dk_at dksX3_lawnOf_5 2 rfl rfl)
theorem dX3_lawnOf_128 : decode cX3_lawnOf 128 = .ok (.bipush 11, 2) := dk_16 11 (dk_at dksX3_lawnOf_5 5 rfl rfl)
theorem dX3_lawnOf_130 : decode cX3_lawnOf 130 = .ok (.iaload, 1) := dk_46 (dk_at dksX3_lawnOf_5 7 rfl rfl)
theorem dX3_lawnOf_131 : decode cX3_lawnOf 131 = .ok (.invokevirtual 150, 3) := dk_182 0 150 (dk_at dksX3_lawnOf_5 8 rfl rfl)
theorem dX3_lawnOf_134 : decode cX3_lawnOf 134 = .ok (.ireturn, 1) := dk_172 (dk_at dksX3_lawnOf_5 11 rfl rfl)
theorem dX3_lawnOf_135 : decode cX3_lawnOf 135 = .ok (.aload_n 0, 1) := dk_42 (dk_at dksX3_lawnOf_5 12 rfl rfl)
theorem dX3_lawnOf_136 : decode cX3_lawnOf 136 = .ok (.getfield 9, 3) := dk_180 0 9 (dk_at dksX3_lawnOf_5 13 rfl rfl)
theorem dX3_lawnOf_139 : decode cX3_lawnOf 139 = .ok (.bipush 22, 2) := dk_16 22 (dk_at dksX3_lawnOf_5 16 rfl rfl)
theorem dX3_lawnOf_141 : decode cX3_lawnOf 141 = .ok (.aload_n 0, 1) := dk_42 (dk_at dksX3_lawnOf_5 18 rfl rfl)
theorem dX3_lawnOf_142 : decode cX3_lawnOf 142 = .ok (.iload_n 1, 1) := dk_27 (dk_at dksX3_lawnOf_5 19 rfl rfl)
theorem dX3_lawnOf_143 : decode cX3_lawnOf 143 = .ok (.invokevirtual 87, 3) := dk_182 0 87 (dk_at dksX3_lawnOf_5 20 rfl rfl)
theorem dX3_lawnOf_146 : decode cX3_lawnOf 146 = .ok (.iadd, 1) := dk_96 (dk_at dksX3_lawnOf_5 23 rfl rfl)
theorem dX3_lawnOf_147 : decode cX3_lawnOf 147 = .ok (.iaload, 1) := dk_46 (dk_at dksX3_lawnOf_6 0 rfl rfl)
theorem dX3_lawnOf_148 : decode cX3_lawnOf 148 = .ok (.ireturn, 1) := dk_172 (dk_at dksX3_lawnOf_6 1 rfl rfl)
abbrev cX3_countOn : ByteArray := prog_14_method_36_code
def yX3_countOn : MethodName := ⟨RX3, "countOn", "(IIII)I"⟩
def dkwX3_countOn_1 : List UInt8 := [96, 46, 27, 160, 0, 7, 4, 167, 0, 4, 3, 96, 54, 5, 132, 6, 1, 167, 255, 221, 21, 5, 172]
abbrev dktX3_countOn_1 : List UInt8 := dkwX3_countOn_1 ++ []
def dkwX3_countOn_0 : List UInt8 := [3, 54, 5, 3, 54, 6, 21, 6, 21, 4, 162, 0, 34, 21, 5, 42, 180, 0, 9, 28, 29, 21, 6, 104]
abbrev dktX3_countOn_0 : List UInt8 := dkwX3_countOn_0 ++ dktX3_countOn_1
theorem dksX3_countOn_0 : cX3_countOn.data.toList.drop 0 = dktX3_countOn_0 := by decide +kernel
theorem dksX3_countOn_1 : cX3_countOn.data.toList.drop 24 = dktX3_countOn_1 := dk_seg dksX3_countOn_0 24 rfl rfl
theorem dX3_countOn_0 : decode cX3_countOn 0 = .ok (.iconst 0, 1) := dk_3 (dk_at dksX3_countOn_0 0 rfl rfl)
theorem dX3_countOn_1 : decode cX3_countOn 1 = .ok (.istore 5, 2) := dk_54 5 (dk_at dksX3_countOn_0 1 rfl rfl)
theorem dX3_countOn_3 : decode cX3_countOn 3 = .ok (.iconst 0, 1) := dk_3 (dk_at dksX3_countOn_0 3 rfl rfl)
theorem dX3_countOn_4 : decode cX3_countOn 4 = .ok (.istore 6, 2) := dk_54 6 (dk_at dksX3_countOn_0 4 rfl rfl)
theorem dX3_countOn_6 : decode cX3_countOn 6 = .ok (.iload 6, 2) := dk_21 6 (dk_at dksX3_countOn_0 6 rfl rfl)
theorem dX3_countOn_8 : decode cX3_countOn 8 = .ok (.iload 4, 2) := dk_21 4 (dk_at dksX3_countOn_0 8 rfl rfl)
theorem dX3_countOn_10 : decode cX3_countOn 10 = .ok (.if_icmp .ge 34, 3) := dk_162 0 34 (dk_at dksX3_countOn_0 10 rfl rfl)
theorem dX3_countOn_13 : decode cX3_countOn 13 = .ok (.iload 5, 2) := dk_21 5 (dk_at dksX3_countOn_0 13 rfl rfl)
theorem dX3_countOn_15 : decode cX3_countOn 15 = .ok (.aload_n 0, 1) := dk_42 (dk_at dksX3_countOn_0 15 rfl rfl)
theorem dX3_countOn_16 : decode cX3_countOn 16 = .ok (.getfield 9, 3) := dk_180 0 9 (dk_at dksX3_countOn_0 16 rfl rfl)
theorem dX3_countOn_19 : decode cX3_countOn 19 = .ok (.iload_n 2, 1) := dk_28 (dk_at dksX3_countOn_0 19 rfl rfl)
theorem dX3_countOn_20 : decode cX3_countOn 20 = .ok (.iload_n 3, 1) := dk_29 (dk_at dksX3_countOn_0 20 rfl rfl)
theorem dX3_countOn_21 : decode cX3_countOn 21 = .ok (.iload 6, 2) := dk_21 6 (dk_at dksX3_countOn_0 21 rfl rfl)
theorem dX3_countOn_23 : decode cX3_countOn 23 = .ok (.imul, 1) := dk_104 (dk_at dksX3_countOn_0 23 rfl rfl)
theorem dX3_countOn_24 : decode cX3_countOn 24 = .ok (.iadd, 1) := dk_96 (dk_at dksX3_countOn_1 0 rfl rfl)
theorem dX3_countOn_25 : decode cX3_countOn 25 = .ok (.iaload, 1) := dk_46 (dk_at dksX3_countOn_1 1 rfl rfl)
theorem dX3_countOn_26 : decode cX3_countOn 26 = .ok (.iload_n 1, 1) := dk_27 (dk_at dksX3_countOn_1 2 rfl rfl)
theorem dX3_countOn_27 : decode cX3_countOn 27 = .ok (.if_icmp .ne 7, 3) := dk_160 0 7 (dk_at dksX3_countOn_1 3 rfl rfl)
theorem dX3_countOn_30 : decode cX3_countOn 30 = .ok (.iconst 1, 1) := dk_4 (dk_at dksX3_countOn_1 6 rfl rfl)
theorem dX3_countOn_31 : decode cX3_countOn 31 = .ok (.goto 4, 3) := dk_167 0 4 (dk_at dksX3_countOn_1 7 rfl rfl)
theorem dX3_countOn_34 : decode cX3_countOn 34 = .ok (.iconst 0, 1) := dk_3 (dk_at dksX3_countOn_1 10 rfl rfl)
theorem dX3_countOn_35 : decode cX3_countOn 35 = .ok (.iadd, 1) := dk_96 (dk_at dksX3_countOn_1 11 rfl rfl)
theorem dX3_countOn_36 : decode cX3_countOn 36 = .ok (.istore 5, 2) := dk_54 5 (dk_at dksX3_countOn_1 12 rfl rfl)
theorem dX3_countOn_38 : decode cX3_countOn 38 = .ok (.iinc 6 1, 3) := dk_132 6 1 (dk_at dksX3_countOn_1 14 rfl rfl)
theorem dX3_countOn_41 : decode cX3_countOn 41 = .ok (.goto (-35), 3) := dk_167 255 221 (dk_at dksX3_countOn_1 17 rfl rfl)
theorem dX3_countOn_44 : decode cX3_countOn 44 = .ok (.iload 5, 2) := dk_21 5 (dk_at dksX3_countOn_1 20 rfl rfl)
theorem dX3_countOn_46 : decode cX3_countOn 46 = .ok (.ireturn, 1) := dk_172 (dk_at dksX3_countOn_1 22 rfl rfl)
abbrev cX3_reached : ByteArray := prog_14_method_39_code
def yX3_reached : MethodName := ⟨RX3, "reached", "(II)I"⟩
def dkwX3_reached_2 : List UInt8 := [3, 182, 0, 154, 172]
abbrev dktX3_reached_2 : List UInt8 := dkwX3_reached_2 ++ []
def dkwX3_reached_1 : List UInt8 := [16, 20, 184, 0, 68, 154, 0, 7, 4, 167, 0, 4, 3, 182, 0, 94, 153, 0, 5, 3, 172, 42, 27, 28]
abbrev dktX3_reached_1 : List UInt8 := dkwX3_reached_1 ++ dktX3_reached_2
def dkwX3_reached_0 : List UInt8 := [42, 4, 27, 184, 0, 112, 154, 0, 7, 4, 167, 0, 4, 3, 182, 0, 94, 154, 0, 26, 42, 5, 28, 3]
abbrev dktX3_reached_0 : List UInt8 := dkwX3_reached_0 ++ dktX3_reached_1
theorem dksX3_reached_0 : cX3_reached.data.toList.drop 0 = dktX3_reached_0 := by decide +kernel
theorem dksX3_reached_1 : cX3_reached.data.toList.drop 24 = dktX3_reached_1 := dk_seg dksX3_reached_0 24 rfl rfl
theorem dksX3_reached_2 : cX3_reached.data.toList.drop 48 = dktX3_reached_2 := dk_seg dksX3_reached_1 24 rfl rfl
theorem dX3_reached_0 : decode cX3_reached 0 = .ok (.aload_n 0, 1) := dk_42 (dk_at dksX3_reached_0 0 rfl rfl)
theorem dX3_reached_1 : decode cX3_reached 1 = .ok (.iconst 1, 1) := dk_4 (dk_at dksX3_reached_0 1 rfl rfl)
theorem dX3_reached_2 : decode cX3_reached 2 = .ok (.iload_n 1, 1) := dk_27 (dk_at dksX3_reached_0 2 rfl rfl)
theorem dX3_reached_3 : decode cX3_reached 3 = .ok (.invokestatic 112, 3) := dk_184 0 112 (dk_at dksX3_reached_0 3 rfl rfl)
theorem dX3_reached_6 : decode cX3_reached 6 = .ok (.ifCond .ne 7, 3) := dk_154 0 7 (dk_at dksX3_reached_0 6 rfl rfl)
theorem dX3_reached_9 : decode cX3_reached 9 = .ok (.iconst 1, 1) := dk_4 (dk_at dksX3_reached_0 9 rfl rfl)
theorem dX3_reached_10 : decode cX3_reached 10 = .ok (.goto 4, 3) := dk_167 0 4 (dk_at dksX3_reached_0 10 rfl rfl)
theorem dX3_reached_13 : decode cX3_reached 13 = .ok (.iconst 0, 1) := dk_3 (dk_at dksX3_reached_0 13 rfl rfl)
theorem dX3_reached_14 : decode cX3_reached 14 = .ok (.invokevirtual 94, 3) := dk_182 0 94 (dk_at dksX3_reached_0 14 rfl rfl)
theorem dX3_reached_17 : decode cX3_reached 17 = .ok (.ifCond .ne 26, 3) := dk_154 0 26 (dk_at dksX3_reached_0 17 rfl rfl)
theorem dX3_reached_20 : decode cX3_reached 20 = .ok (.aload_n 0, 1) := dk_42 (dk_at dksX3_reached_0 20 rfl rfl)
theorem dX3_reached_21 : decode cX3_reached 21 = .ok (.iconst 2, 1) := dk_5 (dk_at dksX3_reached_0 21 rfl rfl)
theorem dX3_reached_22 : decode cX3_reached 22 = .ok (.iload_n 2, 1) := dk_28 (dk_at dksX3_reached_0 22 rfl rfl)
theorem dX3_reached_23 : decode cX3_reached 23 = .ok (.iconst 0, 1) := dk_3 (dk_at dksX3_reached_0 23 rfl rfl)
theorem dX3_reached_24 : decode cX3_reached 24 = .ok (.bipush 20, 2) := dk_16 20 (dk_at dksX3_reached_1 0 rfl rfl)
theorem dX3_reached_26 : decode cX3_reached 26 = .ok (.invokestatic 68, 3) := dk_184 0 68 (dk_at dksX3_reached_1 2 rfl rfl)
theorem dX3_reached_29 : decode cX3_reached 29 = .ok (.ifCond .ne 7, 3) := dk_154 0 7 (dk_at dksX3_reached_1 5 rfl rfl)
theorem dX3_reached_32 : decode cX3_reached 32 = .ok (.iconst 1, 1) := dk_4 (dk_at dksX3_reached_1 8 rfl rfl)
theorem dX3_reached_33 : decode cX3_reached 33 = .ok (.goto 4, 3) := dk_167 0 4 (dk_at dksX3_reached_1 9 rfl rfl)
theorem dX3_reached_36 : decode cX3_reached 36 = .ok (.iconst 0, 1) := dk_3 (dk_at dksX3_reached_1 12 rfl rfl)
theorem dX3_reached_37 : decode cX3_reached 37 = .ok (.invokevirtual 94, 3) := dk_182 0 94 (dk_at dksX3_reached_1 13 rfl rfl)
theorem dX3_reached_40 : decode cX3_reached 40 = .ok (.ifCond .eq 5, 3) := dk_153 0 5 (dk_at dksX3_reached_1 16 rfl rfl)
theorem dX3_reached_43 : decode cX3_reached 43 = .ok (.iconst 0, 1) := dk_3 (dk_at dksX3_reached_1 19 rfl rfl)
theorem dX3_reached_44 : decode cX3_reached 44 = .ok (.ireturn, 1) := dk_172 (dk_at dksX3_reached_1 20 rfl rfl)
theorem dX3_reached_45 : decode cX3_reached 45 = .ok (.aload_n 0, 1) := dk_42 (dk_at dksX3_reached_1 21 rfl rfl)
theorem dX3_reached_46 : decode cX3_reached 46 = .ok (.iload_n 1, 1) := dk_27 (dk_at dksX3_reached_1 22 rfl rfl)
theorem dX3_reached_47 : decode cX3_reached 47 = .ok (.iload_n 2, 1) := dk_28 (dk_at dksX3_reached_1 23 rfl rfl)
theorem dX3_reached_48 : decode cX3_reached 48 = .ok (.iconst 0, 1) := dk_3 (dk_at dksX3_reached_2 0 rfl rfl)
theorem dX3_reached_49 : decode cX3_reached 49 = .ok (.invokevirtual 154, 3) := dk_182 0 154 (dk_at dksX3_reached_2 1 rfl rfl)
theorem dX3_reached_52 : decode cX3_reached 52 = .ok (.ireturn, 1) := dk_172 (dk_at dksX3_reached_2 4 rfl rfl)
abbrev cX3_walkOn : ByteArray := prog_14_method_38_code
def yX3_walkOn : MethodName := ⟨RX3, "walkOn", "(III)I"⟩
def dkwX3_walkOn_3 : List UInt8 := [132, 5, 1, 167, 255, 194, 21, 4, 172]
abbrev dktX3_walkOn_3 : List UInt8 := dkwX3_walkOn_3 ++ []
def dkwX3_walkOn_2 : List UInt8 := [184, 0, 83, 122, 4, 126, 154, 0, 18, 42, 21, 5, 27, 184, 0, 83, 28, 21, 4, 182, 0, 154, 54, 4]
abbrev dktX3_walkOn_2 : List UInt8 := dkwX3_walkOn_2 ++ dktX3_walkOn_3
def dkwX3_walkOn_1 : List UInt8 := [153, 0, 46, 42, 180, 0, 9, 16, 22, 21, 5, 96, 46, 28, 163, 0, 32, 21, 4, 21, 5, 27]
abbrev dktX3_walkOn_1 : List UInt8 := dkwX3_walkOn_1 ++ dktX3_walkOn_2
def dkwX3_walkOn_0 : List UInt8 := [29, 4, 27, 120, 128, 54, 4, 3, 54, 5, 21, 5, 16, 12, 162, 0, 61, 21, 5, 27, 184, 0, 79]
abbrev dktX3_walkOn_0 : List UInt8 := dkwX3_walkOn_0 ++ dktX3_walkOn_1
theorem dksX3_walkOn_0 : cX3_walkOn.data.toList.drop 0 = dktX3_walkOn_0 := by decide +kernel
theorem dksX3_walkOn_1 : cX3_walkOn.data.toList.drop 23 = dktX3_walkOn_1 := dk_seg dksX3_walkOn_0 23 rfl rfl
theorem dksX3_walkOn_2 : cX3_walkOn.data.toList.drop 45 = dktX3_walkOn_2 := dk_seg dksX3_walkOn_1 22 rfl rfl
theorem dksX3_walkOn_3 : cX3_walkOn.data.toList.drop 69 = dktX3_walkOn_3 := dk_seg dksX3_walkOn_2 24 rfl rfl
theorem dX3_walkOn_0 : decode cX3_walkOn 0 = .ok (.iload_n 3, 1) := dk_29 (dk_at dksX3_walkOn_0 0 rfl rfl)
theorem dX3_walkOn_1 : decode cX3_walkOn 1 = .ok (.iconst 1, 1) := dk_4 (dk_at dksX3_walkOn_0 1 rfl rfl)
theorem dX3_walkOn_2 : decode cX3_walkOn 2 = .ok (.iload_n 1, 1) := dk_27 (dk_at dksX3_walkOn_0 2 rfl rfl)
theorem dX3_walkOn_3 : decode cX3_walkOn 3 = .ok (.ishl, 1) := dk_120 (dk_at dksX3_walkOn_0 3 rfl rfl)
theorem dX3_walkOn_4 : decode cX3_walkOn 4 = .ok (.ior, 1) := dk_128 (dk_at dksX3_walkOn_0 4 rfl rfl)
theorem dX3_walkOn_5 : decode cX3_walkOn 5 = .ok (.istore 4, 2) := dk_54 4 (dk_at dksX3_walkOn_0 5 rfl rfl)
theorem dX3_walkOn_7 : decode cX3_walkOn 7 = .ok (.iconst 0, 1) := dk_3 (dk_at dksX3_walkOn_0 7 rfl rfl)
theorem dX3_walkOn_8 : decode cX3_walkOn 8 = .ok (.istore 5, 2) := dk_54 5 (dk_at dksX3_walkOn_0 8 rfl rfl)
theorem dX3_walkOn_10 : decode cX3_walkOn 10 = .ok (.iload 5, 2) := dk_21 5 (dk_at dksX3_walkOn_0 10 rfl rfl)
theorem dX3_walkOn_12 : decode cX3_walkOn 12 = .ok (.bipush 12, 2) := dk_16 12 (dk_at dksX3_walkOn_0 12 rfl rfl)
theorem dX3_walkOn_14 : decode cX3_walkOn 14 = .ok (.if_icmp .ge 61, 3) := dk_162 0 61 (dk_at dksX3_walkOn_0 14 rfl rfl)
theorem dX3_walkOn_17 : decode cX3_walkOn 17 = .ok (.iload 5, 2) := dk_21 5 (dk_at dksX3_walkOn_0 17 rfl rfl)
theorem dX3_walkOn_19 : decode cX3_walkOn 19 = .ok (.iload_n 1, 1) := dk_27 (dk_at dksX3_walkOn_0 19 rfl rfl)
theorem dX3_walkOn_20 : decode cX3_walkOn 20 = .ok (.invokestatic 79, 3) := dk_184 0 79 (dk_at dksX3_walkOn_0 20 rfl rfl)
theorem dX3_walkOn_23 : decode cX3_walkOn 23 = .ok (.ifCond .eq 46, 3) := dk_153 0 46 (dk_at dksX3_walkOn_1 0 rfl rfl)
theorem dX3_walkOn_26 : decode cX3_walkOn 26 = .ok (.aload_n 0, 1) := dk_42 (dk_at dksX3_walkOn_1 3 rfl rfl)
theorem dX3_walkOn_27 : decode cX3_walkOn 27 = .ok (.getfield 9, 3) := dk_180 0 9 (dk_at dksX3_walkOn_1 4 rfl rfl)
theorem dX3_walkOn_30 : decode cX3_walkOn 30 = .ok (.bipush 22, 2) := dk_16 22 (dk_at dksX3_walkOn_1 7 rfl rfl)
theorem dX3_walkOn_32 : decode cX3_walkOn 32 = .ok (.iload 5, 2) := dk_21 5 (dk_at dksX3_walkOn_1 9 rfl rfl)
theorem dX3_walkOn_34 : decode cX3_walkOn 34 = .ok (.iadd, 1) := dk_96 (dk_at dksX3_walkOn_1 11 rfl rfl)
theorem dX3_walkOn_35 : decode cX3_walkOn 35 = .ok (.iaload, 1) := dk_46 (dk_at dksX3_walkOn_1 12 rfl rfl)
theorem dX3_walkOn_36 : decode cX3_walkOn 36 = .ok (.iload_n 2, 1) := dk_28 (dk_at dksX3_walkOn_1 13 rfl rfl)
theorem dX3_walkOn_37 : decode cX3_walkOn 37 = .ok (.if_icmp .gt 32, 3) := dk_163 0 32 (dk_at dksX3_walkOn_1 14 rfl rfl)
theorem dX3_walkOn_40 : decode cX3_walkOn 40 = .ok (.iload 4, 2) := dk_21 4 (dk_at dksX3_walkOn_1 17 rfl rfl)
theorem dX3_walkOn_42 : decode cX3_walkOn 42 = .ok (.iload 5, 2) := dk_21 5 (dk_at dksX3_walkOn_1 19 rfl rfl)
theorem dX3_walkOn_44 : decode cX3_walkOn 44 = .ok (.iload_n 1, 1) := dk_27 (dk_at dksX3_walkOn_1 21 rfl rfl)
theorem dX3_walkOn_45 : decode cX3_walkOn 45 = .ok (.invokestatic 83, 3) := dk_184 0 83 (dk_at dksX3_walkOn_2 0 rfl rfl)
theorem dX3_walkOn_48 : decode cX3_walkOn 48 = .ok (.ishr, 1) := dk_122 (dk_at dksX3_walkOn_2 3 rfl rfl)
theorem dX3_walkOn_49 : decode cX3_walkOn 49 = .ok (.iconst 1, 1) := dk_4 (dk_at dksX3_walkOn_2 4 rfl rfl)
theorem dX3_walkOn_50 : decode cX3_walkOn 50 = .ok (.iand, 1) := dk_126 (dk_at dksX3_walkOn_2 5 rfl rfl)
theorem dX3_walkOn_51 : decode cX3_walkOn 51 = .ok (.ifCond .ne 18, 3) := dk_154 0 18 (dk_at dksX3_walkOn_2 6 rfl rfl)
theorem dX3_walkOn_54 : decode cX3_walkOn 54 = .ok (.aload_n 0, 1) := dk_42 (dk_at dksX3_walkOn_2 9 rfl rfl)
theorem dX3_walkOn_55 : decode cX3_walkOn 55 = .ok (.iload 5, 2) := dk_21 5 (dk_at dksX3_walkOn_2 10 rfl rfl)
theorem dX3_walkOn_57 : decode cX3_walkOn 57 = .ok (.iload_n 1, 1) := dk_27 (dk_at dksX3_walkOn_2 12 rfl rfl)
theorem dX3_walkOn_58 : decode cX3_walkOn 58 = .ok (.invokestatic 83, 3) := dk_184 0 83 (dk_at dksX3_walkOn_2 13 rfl rfl)
theorem dX3_walkOn_61 : decode cX3_walkOn 61 = .ok (.iload_n 2, 1) := dk_28 (dk_at dksX3_walkOn_2 16 rfl rfl)
theorem dX3_walkOn_62 : decode cX3_walkOn 62 = .ok (.iload 4, 2) := dk_21 4 (dk_at dksX3_walkOn_2 17 rfl rfl)
theorem dX3_walkOn_64 : decode cX3_walkOn 64 = .ok (.invokevirtual 154, 3) := dk_182 0 154 (dk_at dksX3_walkOn_2 19 rfl rfl)
theorem dX3_walkOn_67 : decode cX3_walkOn 67 = .ok (.istore 4, 2) := dk_54 4 (dk_at dksX3_walkOn_2 22 rfl rfl)
theorem dX3_walkOn_69 : decode cX3_walkOn 69 = .ok (.iinc 5 1, 3) := dk_132 5 1 (dk_at dksX3_walkOn_3 0 rfl rfl)
theorem dX3_walkOn_72 : decode cX3_walkOn 72 = .ok (.goto (-62), 3) := dk_167 255 194 (dk_at dksX3_walkOn_3 3 rfl rfl)
theorem dX3_walkOn_75 : decode cX3_walkOn 75 = .ok (.iload 4, 2) := dk_21 4 (dk_at dksX3_walkOn_3 6 rfl rfl)
theorem dX3_walkOn_77 : decode cX3_walkOn 77 = .ok (.ireturn, 1) := dk_172 (dk_at dksX3_walkOn_3 8 rfl rfl)
abbrev cX3_reachedAgain : ByteArray := prog_14_method_40_code
def yX3_reachedAgain : MethodName := ⟨RX3, "reachedAgain", "(II)I"⟩
def dkwX3_reachedAgain_5 : List UInt8 := [54, 4, 132, 5, 1, 167, 255, 196, 167, 255, 181, 29, 172]
abbrev dktX3_reachedAgain_5 : List UInt8 := dkwX3_reachedAgain_5 ++ []
def dkwX3_reachedAgain_4 : List UInt8 := [21, 5, 96, 46, 28, 163, 0, 16, 21, 4, 21, 6, 126, 153, 0, 8, 21, 6, 167, 0, 4, 3, 128]
abbrev dktX3_reachedAgain_4 : List UInt8 := dkwX3_reachedAgain_4 ++ dktX3_reachedAgain_5
def dkwX3_reachedAgain_3 : List UInt8 := [21, 5, 184, 0, 72, 120, 4, 21, 5, 184, 0, 76, 120, 128, 54, 6, 21, 4, 42, 180, 0, 9, 16, 22]
abbrev dktX3_reachedAgain_3 : List UInt8 := dkwX3_reachedAgain_3 ++ dktX3_reachedAgain_4
def dkwX3_reachedAgain_2 : List UInt8 := [27, 120, 54, 4, 21, 4, 29, 159, 0, 75, 21, 4, 62, 3, 54, 5, 21, 5, 16, 12, 162, 0, 59, 4]
abbrev dktX3_reachedAgain_2 : List UInt8 := dkwX3_reachedAgain_2 ++ dktX3_reachedAgain_3
def dkwX3_reachedAgain_1 : List UInt8 := [16, 20, 184, 0, 68, 154, 0, 7, 4, 167, 0, 4, 3, 182, 0, 94, 153, 0, 5, 3, 172, 3, 62, 4]
abbrev dktX3_reachedAgain_1 : List UInt8 := dkwX3_reachedAgain_1 ++ dktX3_reachedAgain_2
def dkwX3_reachedAgain_0 : List UInt8 := [42, 4, 27, 184, 0, 112, 154, 0, 7, 4, 167, 0, 4, 3, 182, 0, 94, 154, 0, 26, 42, 5, 28, 3]
abbrev dktX3_reachedAgain_0 : List UInt8 := dkwX3_reachedAgain_0 ++ dktX3_reachedAgain_1
theorem dksX3_reachedAgain_0 : cX3_reachedAgain.data.toList.drop 0 = dktX3_reachedAgain_0 := by decide +kernel
theorem dksX3_reachedAgain_1 : cX3_reachedAgain.data.toList.drop 24 = dktX3_reachedAgain_1 := dk_seg dksX3_reachedAgain_0 24 rfl rfl
theorem dksX3_reachedAgain_2 : cX3_reachedAgain.data.toList.drop 48 = dktX3_reachedAgain_2 := dk_seg dksX3_reachedAgain_1 24 rfl rfl
theorem dksX3_reachedAgain_3 : cX3_reachedAgain.data.toList.drop 72 = dktX3_reachedAgain_3 := dk_seg dksX3_reachedAgain_2 24 rfl rfl
theorem dksX3_reachedAgain_4 : cX3_reachedAgain.data.toList.drop 96 = dktX3_reachedAgain_4 := dk_seg dksX3_reachedAgain_3 24 rfl rfl
theorem dksX3_reachedAgain_5 : cX3_reachedAgain.data.toList.drop 119 = dktX3_reachedAgain_5 := dk_seg dksX3_reachedAgain_4 23 rfl rfl
theorem dX3_reachedAgain_0 : decode cX3_reachedAgain 0 = .ok (.aload_n 0, 1) := dk_42 (dk_at dksX3_reachedAgain_0 0 rfl rfl)
theorem dX3_reachedAgain_1 : decode cX3_reachedAgain 1 = .ok (.iconst 1, 1) := dk_4 (dk_at dksX3_reachedAgain_0 1 rfl rfl)
theorem dX3_reachedAgain_2 : decode cX3_reachedAgain 2 = .ok (.iload_n 1, 1) := dk_27 (dk_at dksX3_reachedAgain_0 2 rfl rfl)
theorem dX3_reachedAgain_3 : decode cX3_reachedAgain 3 = .ok (.invokestatic 112, 3) := dk_184 0 112 (dk_at dksX3_reachedAgain_0 3 rfl rfl)
theorem dX3_reachedAgain_6 : decode cX3_reachedAgain 6 = .ok (.ifCond .ne 7, 3) := dk_154 0 7 (dk_at dksX3_reachedAgain_0 6 rfl rfl)
theorem dX3_reachedAgain_9 : decode cX3_reachedAgain 9 = .ok (.iconst 1, 1) := dk_4 (dk_at dksX3_reachedAgain_0 9 rfl rfl)
theorem dX3_reachedAgain_10 : decode cX3_reachedAgain 10 = .ok (.goto 4, 3) := dk_167 0 4 (dk_at dksX3_reachedAgain_0 10 rfl rfl)
theorem dX3_reachedAgain_13 : decode cX3_reachedAgain 13 = .ok (.iconst 0, 1) := dk_3 (dk_at dksX3_reachedAgain_0 13 rfl rfl)
theorem dX3_reachedAgain_14 : decode cX3_reachedAgain 14 = .ok (.invokevirtual 94, 3) := dk_182 0 94 (dk_at dksX3_reachedAgain_0 14 rfl rfl)
theorem dX3_reachedAgain_17 : decode cX3_reachedAgain 17 = .ok (.ifCond .ne 26, 3) := dk_154 0 26 (dk_at dksX3_reachedAgain_0 17 rfl rfl)
theorem dX3_reachedAgain_20 : decode cX3_reachedAgain 20 = .ok (.aload_n 0, 1) := dk_42 (dk_at dksX3_reachedAgain_0 20 rfl rfl)
theorem dX3_reachedAgain_21 : decode cX3_reachedAgain 21 = .ok (.iconst 2, 1) := dk_5 (dk_at dksX3_reachedAgain_0 21 rfl rfl)
theorem dX3_reachedAgain_22 : decode cX3_reachedAgain 22 = .ok (.iload_n 2, 1) := dk_28 (dk_at dksX3_reachedAgain_0 22 rfl rfl)
theorem dX3_reachedAgain_23 : decode cX3_reachedAgain 23 = .ok (.iconst 0, 1) := dk_3 (dk_at dksX3_reachedAgain_0 23 rfl rfl)
theorem dX3_reachedAgain_24 : decode cX3_reachedAgain 24 = .ok (.bipush 20, 2) := dk_16 20 (dk_at dksX3_reachedAgain_1 0 rfl rfl)
theorem dX3_reachedAgain_26 : decode cX3_reachedAgain 26 = .ok (.invokestatic 68, 3) := dk_184 0 68 (dk_at dksX3_reachedAgain_1 2 rfl rfl)
theorem dX3_reachedAgain_29 : decode cX3_reachedAgain 29 = .ok (.ifCond .ne 7, 3) := dk_154 0 7 (dk_at dksX3_reachedAgain_1 5 rfl rfl)
theorem dX3_reachedAgain_32 : decode cX3_reachedAgain 32 = .ok (.iconst 1, 1) := dk_4 (dk_at dksX3_reachedAgain_1 8 rfl rfl)
theorem dX3_reachedAgain_33 : decode cX3_reachedAgain 33 = .ok (.goto 4, 3) := dk_167 0 4 (dk_at dksX3_reachedAgain_1 9 rfl rfl)
theorem dX3_reachedAgain_36 : decode cX3_reachedAgain 36 = .ok (.iconst 0, 1) := dk_3 (dk_at dksX3_reachedAgain_1 12 rfl rfl)
theorem dX3_reachedAgain_37 : decode cX3_reachedAgain 37 = .ok (.invokevirtual 94, 3) := dk_182 0 94 (dk_at dksX3_reachedAgain_1 13 rfl rfl)
theorem dX3_reachedAgain_40 : decode cX3_reachedAgain 40 = .ok (.ifCond .eq 5, 3) := dk_153 0 5 (dk_at dksX3_reachedAgain_1 16 rfl rfl)
theorem dX3_reachedAgain_43 : decode cX3_reachedAgain 43 = .ok (.iconst 0, 1) := dk_3 (dk_at dksX3_reachedAgain_1 19 rfl rfl)
theorem dX3_reachedAgain_44 : decode cX3_reachedAgain 44 = .ok (.ireturn, 1) := dk_172 (dk_at dksX3_reachedAgain_1 20 rfl rfl)
theorem dX3_reachedAgain_45 : decode cX3_reachedAgain 45 = .ok (.iconst 0, 1) := dk_3 (dk_at dksX3_reachedAgain_1 21 rfl rfl)
theorem dX3_reachedAgain_46 : decode cX3_reachedAgain 46 = .ok (.istore_n 3, 1) := dk_62 (dk_at dksX3_reachedAgain_1 22 rfl rfl)
theorem dX3_reachedAgain_47 : decode cX3_reachedAgain 47 = .ok (.iconst 1, 1) := dk_4 (dk_at dksX3_reachedAgain_1 23 rfl rfl)
theorem dX3_reachedAgain_48 : decode cX3_reachedAgain 48 = .ok (.iload_n 1, 1) := dk_27 (dk_at dksX3_reachedAgain_2 0 rfl rfl)
theorem dX3_reachedAgain_49 : decode cX3_reachedAgain 49 = .ok (.ishl, 1) := dk_120 (dk_at dksX3_reachedAgain_2 1 rfl rfl)
theorem dX3_reachedAgain_50 : decode cX3_reachedAgain 50 = .ok (.istore 4, 2) := dk_54 4 (dk_at dksX3_reachedAgain_2 2 rfl rfl)
theorem dX3_reachedAgain_52 : decode cX3_reachedAgain 52 = .ok (.iload 4, 2) := dk_21 4 (dk_at dksX3_reachedAgain_2 4 rfl rfl)
theorem dX3_reachedAgain_54 : decode cX3_reachedAgain 54 = .ok (.iload_n 3, 1) := dk_29 (dk_at dksX3_reachedAgain_2 6 rfl rfl)
theorem dX3_reachedAgain_55 : decode cX3_reachedAgain 55 = .ok (.if_icmp .eq 75, 3) := dk_159 0 75 (dk_at dksX3_reachedAgain_2 7 rfl rfl)
theorem dX3_reachedAgain_58 : decode cX3_reachedAgain 58 = .ok (.iload 4, 2) := dk_21 4 (dk_at dksX3_reachedAgain_2 10 rfl rfl)
theorem dX3_reachedAgain_60 : decode cX3_reachedAgain 60 = .ok (.istore_n 3, 1) := dk_62 (dk_at dksX3_reachedAgain_2 12 rfl rfl)
theorem dX3_reachedAgain_61 : decode cX3_reachedAgain 61 = .ok (.iconst 0, 1) := dk_3 (dk_at dksX3_reachedAgain_2 13 rfl rfl)
theorem dX3_reachedAgain_62 : decode cX3_reachedAgain 62 = .ok (.istore 5, 2) := dk_54 5 (dk_at dksX3_reachedAgain_2 14 rfl rfl)
theorem dX3_reachedAgain_64 : decode cX3_reachedAgain 64 = .ok (.iload 5, 2) := dk_21 5 (dk_at dksX3_reachedAgain_2 16 rfl rfl)
theorem dX3_reachedAgain_66 : decode cX3_reachedAgain 66 = .ok (.bipush 12, 2) := dk_16 12 (dk_at dksX3_reachedAgain_2 18 rfl rfl)
theorem dX3_reachedAgain_68 : decode cX3_reachedAgain 68 = .ok (.if_icmp .ge 59, 3) := dk_162 0 59 (dk_at dksX3_reachedAgain_2 20 rfl rfl)
theorem dX3_reachedAgain_71 : decode cX3_reachedAgain 71 = .ok (.iconst 1, 1) := dk_4 (dk_at dksX3_reachedAgain_2 23 rfl rfl)
theorem dX3_reachedAgain_72 : decode cX3_reachedAgain 72 = .ok (.iload 5, 2) := dk_21 5 (dk_at dksX3_reachedAgain_3 0 rfl rfl)
theorem dX3_reachedAgain_74 : decode cX3_reachedAgain 74 = .ok (.invokestatic 72, 3) := dk_184 0 72 (dk_at dksX3_reachedAgain_3 2 rfl rfl)
theorem dX3_reachedAgain_77 : decode cX3_reachedAgain 77 = .ok (.ishl, 1) := dk_120 (dk_at dksX3_reachedAgain_3 5 rfl rfl)
theorem dX3_reachedAgain_78 : decode cX3_reachedAgain 78 = .ok (.iconst 1, 1) := dk_4 (dk_at dksX3_reachedAgain_3 6 rfl rfl)
theorem dX3_reachedAgain_79 : decode cX3_reachedAgain 79 = .ok (.iload 5, 2) := dk_21 5 (dk_at dksX3_reachedAgain_3 7 rfl rfl)
theorem dX3_reachedAgain_81 : decode cX3_reachedAgain 81 = .ok (.invokestatic 76, 3) := dk_184 0 76 (dk_at dksX3_reachedAgain_3 9 rfl rfl)
theorem dX3_reachedAgain_84 : decode cX3_reachedAgain 84 = .ok (.ishl, 1) := dk_120 (dk_at dksX3_reachedAgain_3 12 rfl rfl)
theorem dX3_reachedAgain_85 : decode cX3_reachedAgain 85 = .ok (.ior, 1) := dk_128 (dk_at dksX3_reachedAgain_3 13 rfl rfl)
theorem dX3_reachedAgain_86 : decode cX3_reachedAgain 86 = .ok (.istore 6, 2) := dk_54 6 (dk_at dksX3_reachedAgain_3 14 rfl rfl)
theorem dX3_reachedAgain_88 : decode cX3_reachedAgain 88 = .ok (.iload 4, 2) := dk_21 4 (dk_at dksX3_reachedAgain_3 16 rfl rfl)
theorem dX3_reachedAgain_90 : decode cX3_reachedAgain 90 = .ok (.aload_n 0, 1) := dk_42 (dk_at dksX3_reachedAgain_3 18 rfl rfl)
theorem dX3_reachedAgain_91 : decode cX3_reachedAgain 91 = .ok (.getfield 9, 3) := dk_180 0 9 (dk_at dksX3_reachedAgain_3 19 rfl rfl)
theorem dX3_reachedAgain_94 : decode cX3_reachedAgain 94 = .ok (.bipush 22, 2) := dk_16 22 (dk_at dksX3_reachedAgain_3 22 rfl rfl)
theorem dX3_reachedAgain_96 : decode cX3_reachedAgain 96 = .ok (.iload 5, 2) := dk_21 5 (dk_at dksX3_reachedAgain_4 0 rfl rfl)
theorem dX3_reachedAgain_98 : decode cX3_reachedAgain 98 = .ok (.iadd, 1) := dk_96 (dk_at dksX3_reachedAgain_4 2 rfl rfl)
theorem dX3_reachedAgain_99 : decode cX3_reachedAgain 99 = .ok (.iaload, 1) := dk_46 (dk_at dksX3_reachedAgain_4 3 rfl rfl)
theorem dX3_reachedAgain_100 : decode cX3_reachedAgain 100 = .ok (.iload_n 2, 1) := dk_28 (dk_at dksX3_reachedAgain_4 4 rfl rfl)
theorem dX3_reachedAgain_101 : decode cX3_reachedAgain 101 = .ok (.if_icmp .gt 16, 3) := dk_163 0 16 (dk_at dksX3_reachedAgain_4 5 rfl rfl)
theorem dX3_reachedAgain_104 : decode cX3_reachedAgain 104 = .ok (.iload 4, 2) := dk_21 4 (dk_at dksX3_reachedAgain_4 8 rfl rfl)
theorem dX3_reachedAgain_106 : decode cX3_reachedAgain 106 = .ok (.iload 6, 2) := dk_21 6 (dk_at dksX3_reachedAgain_4 10 rfl rfl)
theorem dX3_reachedAgain_108 : decode cX3_reachedAgain 108 = .ok (.iand, 1) := dk_126 (dk_at dksX3_reachedAgain_4 12 rfl rfl)
theorem dX3_reachedAgain_109 : decode cX3_reachedAgain 109 = .ok (.ifCond .eq 8, 3) := dk_153 0 8 (dk_at dksX3_reachedAgain_4 13 rfl rfl)
theorem dX3_reachedAgain_112 : decode cX3_reachedAgain 112 = .ok (.iload 6, 2) := dk_21 6 (dk_at dksX3_reachedAgain_4 16 rfl rfl)
theorem dX3_reachedAgain_114 : decode cX3_reachedAgain 114 = .ok (.goto 4, 3) := dk_167 0 4 (dk_at dksX3_reachedAgain_4 18 rfl rfl)
theorem dX3_reachedAgain_117 : decode cX3_reachedAgain 117 = .ok (.iconst 0, 1) := dk_3 (dk_at dksX3_reachedAgain_4 21 rfl rfl)
theorem dX3_reachedAgain_118 : decode cX3_reachedAgain 118 = .ok (.ior, 1) := dk_128 (dk_at dksX3_reachedAgain_4 22 rfl rfl)
theorem dX3_reachedAgain_119 : decode cX3_reachedAgain 119 = .ok (.istore 4, 2) := dk_54 4 (dk_at dksX3_reachedAgain_5 0 rfl rfl)
theorem dX3_reachedAgain_121 : decode cX3_reachedAgain 121 = .ok (.iinc 5 1, 3) := dk_132 5 1 (dk_at dksX3_reachedAgain_5 2 rfl rfl)
theorem dX3_reachedAgain_124 : decode cX3_reachedAgain 124 = .ok (.goto (-60), 3) := dk_167 255 196 (dk_at dksX3_reachedAgain_5 5 rfl rfl)
theorem dX3_reachedAgain_127 : decode cX3_reachedAgain 127 = .ok (.goto (-75), 3) := dk_167 255 181 (dk_at dksX3_reachedAgain_5 8 rfl rfl)
theorem dX3_reachedAgain_130 : decode cX3_reachedAgain 130 = .ok (.iload_n 3, 1) := dk_29 (dk_at dksX3_reachedAgain_5 11 rfl rfl)
theorem dX3_reachedAgain_131 : decode cX3_reachedAgain 131 = .ok (.ireturn, 1) := dk_172 (dk_at dksX3_reachedAgain_5 12 rfl rfl)
abbrev cX3_richest : ByteArray := prog_14_method_41_code
def yX3_richest : MethodName := ⟨RX3, "richest", "()I"⟩
def dkwX3_richest_3 : List UInt8 := [167, 0, 4, 27, 172]
abbrev dktX3_richest_3 : List UInt8 := dkwX3_richest_3 ++ []
def dkwX3_richest_2 : List UInt8 := [180, 0, 9, 16, 13, 27, 96, 46, 154, 0, 7, 4, 167, 0, 4, 3, 182, 0, 94, 153, 0, 7, 3]
abbrev dktX3_richest_2 : List UInt8 := dkwX3_richest_2 ++ dktX3_richest_3
def dkwX3_richest_1 : List UInt8 := [16, 13, 27, 96, 46, 164, 0, 7, 28, 167, 0, 4, 27, 60, 132, 2, 1, 167, 255, 220, 42, 4, 42]
abbrev dktX3_richest_1 : List UInt8 := dkwX3_richest_1 ++ dktX3_richest_2
def dkwX3_richest_0 : List UInt8 := [3, 60, 4, 61, 28, 16, 9, 162, 0, 36, 42, 180, 0, 9, 16, 13, 28, 96, 46, 42, 180, 0, 9]
abbrev dktX3_richest_0 : List UInt8 := dkwX3_richest_0 ++ dktX3_richest_1
theorem dksX3_richest_0 : cX3_richest.data.toList.drop 0 = dktX3_richest_0 := by decide +kernel
theorem dksX3_richest_1 : cX3_richest.data.toList.drop 23 = dktX3_richest_1 := dk_seg dksX3_richest_0 23 rfl rfl
theorem dksX3_richest_2 : cX3_richest.data.toList.drop 46 = dktX3_richest_2 := dk_seg dksX3_richest_1 23 rfl rfl
theorem dksX3_richest_3 : cX3_richest.data.toList.drop 69 = dktX3_richest_3 := dk_seg dksX3_richest_2 23 rfl rfl
theorem dX3_richest_0 : decode cX3_richest 0 = .ok (.iconst 0, 1) := dk_3 (dk_at dksX3_richest_0 0 rfl rfl)
theorem dX3_richest_1 : decode cX3_richest 1 = .ok (.istore_n 1, 1) := dk_60 (dk_at dksX3_richest_0 1 rfl rfl)
theorem dX3_richest_2 : decode cX3_richest 2 = .ok (.iconst 1, 1) := dk_4 (dk_at dksX3_richest_0 2 rfl rfl)
theorem dX3_richest_3 : decode cX3_richest 3 = .ok (.istore_n 2, 1) := dk_61 (dk_at dksX3_richest_0 3 rfl rfl)
theorem dX3_richest_4 : decode cX3_richest 4 = .ok (.iload_n 2, 1) := dk_28 (dk_at dksX3_richest_0 4 rfl rfl)
theorem dX3_richest_5 : decode cX3_richest 5 = .ok (.bipush 9, 2) := dk_16 9 (dk_at dksX3_richest_0 5 rfl rfl)
theorem dX3_richest_7 : decode cX3_richest 7 = .ok (.if_icmp .ge 36, 3) := dk_162 0 36 (dk_at dksX3_richest_0 7 rfl rfl)
theorem dX3_richest_10 : decode cX3_richest 10 = .ok (.aload_n 0, 1) := dk_42 (dk_at dksX3_richest_0 10 rfl rfl)
theorem dX3_richest_11 : decode cX3_richest 11 = .ok (.getfield 9, 3) := dk_180 0 9 (dk_at dksX3_richest_0 11 rfl rfl)
theorem dX3_richest_14 : decode cX3_richest 14 = .ok (.bipush 13, 2) := dk_16 13 (dk_at dksX3_richest_0 14 rfl rfl)
theorem dX3_richest_16 : decode cX3_richest 16 = .ok (.iload_n 2, 1) := dk_28 (dk_at dksX3_richest_0 16 rfl rfl)
theorem dX3_richest_17 : decode cX3_richest 17 = .ok (.iadd, 1) := dk_96 (dk_at dksX3_richest_0 17 rfl rfl)
theorem dX3_richest_18 : decode cX3_richest 18 = .ok (.iaload, 1) := dk_46 (dk_at dksX3_richest_0 18 rfl rfl)
theorem dX3_richest_19 : decode cX3_richest 19 = .ok (.aload_n 0, 1) := dk_42 (dk_at dksX3_richest_0 19 rfl rfl)
theorem dX3_richest_20 : decode cX3_richest 20 = .ok (.getfield 9, 3) := dk_180 0 9 (dk_at dksX3_richest_0 20 rfl rfl)
theorem dX3_richest_23 : decode cX3_richest 23 = .ok (.bipush 13, 2) := dk_16 13 (dk_at dksX3_richest_1 0 rfl rfl)
theorem dX3_richest_25 : decode cX3_richest 25 = .ok (.iload_n 1, 1) := dk_27 (dk_at dksX3_richest_1 2 rfl rfl)
theorem dX3_richest_26 : decode cX3_richest 26 = .ok (.iadd, 1) := dk_96 (dk_at dksX3_richest_1 3 rfl rfl)
theorem dX3_richest_27 : decode cX3_richest 27 = .ok (.iaload, 1) := dk_46 (dk_at dksX3_richest_1 4 rfl rfl)
theorem dX3_richest_28 : decode cX3_richest 28 = .ok (.if_icmp .le 7, 3) := dk_164 0 7 (dk_at dksX3_richest_1 5 rfl rfl)
theorem dX3_richest_31 : decode cX3_richest 31 = .ok (.iload_n 2, 1) := dk_28 (dk_at dksX3_richest_1 8 rfl rfl)
theorem dX3_richest_32 : decode cX3_richest 32 = .ok (.goto 4, 3) := dk_167 0 4 (dk_at dksX3_richest_1 9 rfl rfl)
theorem dX3_richest_35 : decode cX3_richest 35 = .ok (.iload_n 1, 1) := dk_27 (dk_at dksX3_richest_1 12 rfl rfl)
theorem dX3_richest_36 : decode cX3_richest 36 = .ok (.istore_n 1, 1) := dk_60 (dk_at dksX3_richest_1 13 rfl rfl)
theorem dX3_richest_37 : decode cX3_richest 37 = .ok (.iinc 2 1, 3) := dk_132 2 1 (dk_at dksX3_richest_1 14 rfl rfl)
theorem dX3_richest_40 : decode cX3_richest 40 = .ok (.goto (-36), 3) := dk_167 255 220 (dk_at dksX3_richest_1 17 rfl rfl)
theorem dX3_richest_43 : decode cX3_richest 43 = .ok (.aload_n 0, 1) := dk_42 (dk_at dksX3_richest_1 20 rfl rfl)
theorem dX3_richest_44 : decode cX3_richest 44 = .ok (.iconst 1, 1) := dk_4 (dk_at dksX3_richest_1 21 rfl rfl)
theorem dX3_richest_45 : decode cX3_richest 45 = .ok (.aload_n 0, 1) := dk_42 (dk_at dksX3_richest_1 22 rfl rfl)
theorem dX3_richest_46 : decode cX3_richest 46 = .ok (.getfield 9, 3) := dk_180 0 9 (dk_at dksX3_richest_2 0 rfl rfl)
theorem dX3_richest_49 : decode cX3_richest 49 = .ok (.bipush 13, 2) := dk_16 13 (dk_at dksX3_richest_2 3 rfl rfl)
theorem dX3_richest_51 : decode cX3_richest 51 = .ok (.iload_n 1, 1) := dk_27 (dk_at dksX3_richest_2 5 rfl rfl)
theorem dX3_richest_52 : decode cX3_richest 52 = .ok (.iadd, 1) := dk_96 (dk_at dksX3_richest_2 6 rfl rfl)
theorem dX3_richest_53 : decode cX3_richest 53 = .ok (.iaload, 1) := dk_46 (dk_at dksX3_richest_2 7 rfl rfl)
theorem dX3_richest_54 : decode cX3_richest 54 = .ok (.ifCond .ne 7, 3) := dk_154 0 7 (dk_at dksX3_richest_2 8 rfl rfl)
theorem dX3_richest_57 : decode cX3_richest 57 = .ok (.iconst 1, 1) := dk_4 (dk_at dksX3_richest_2 11 rfl rfl)
theorem dX3_richest_58 : decode cX3_richest 58 = .ok (.goto 4, 3) := dk_167 0 4 (dk_at dksX3_richest_2 12 rfl rfl)
theorem dX3_richest_61 : decode cX3_richest 61 = .ok (.iconst 0, 1) := dk_3 (dk_at dksX3_richest_2 15 rfl rfl)
theorem dX3_richest_62 : decode cX3_richest 62 = .ok (.invokevirtual 94, 3) := dk_182 0 94 (dk_at dksX3_richest_2 16 rfl rfl)
theorem dX3_richest_65 : decode cX3_richest 65 = .ok (.ifCond .eq 7, 3) := dk_153 0 7 (dk_at dksX3_richest_2 19 rfl rfl)
theorem dX3_richest_68 : decode cX3_richest 68 = .ok (.iconst 0, 1) := dk_3 (dk_at dksX3_richest_2 22 rfl rfl)
theorem dX3_richest_69 : decode cX3_richest 69 = .ok (.goto 4, 3) := dk_167 0 4 (dk_at dksX3_richest_3 0 rfl rfl)
theorem dX3_richest_72 : decode cX3_richest 72 = .ok (.iload_n 1, 1) := dk_27 (dk_at dksX3_richest_3 3 rfl rfl)
theorem dX3_richest_73 : decode cX3_richest 73 = .ok (.ireturn, 1) := dk_172 (dk_at dksX3_richest_3 4 rfl rfl)
abbrev cX3_keeper : ByteArray := prog_14_method_45_code
def yX3_keeper : MethodName := ⟨RX3, "keeper", "()I"⟩
def dkwX3_keeper_4 : List UInt8 := [79, 42, 180, 0, 9, 16, 11, 46, 4, 100, 172]
abbrev dktX3_keeper_4 : List UInt8 := dkwX3_keeper_4 ++ []
def dkwX3_keeper_3 : List UInt8 := [27, 5, 96, 3, 79, 42, 180, 0, 9, 27, 6, 96, 3, 79, 42, 180, 0, 9, 16, 11, 92, 46, 4, 96]
abbrev dktX3_keeper_3 : List UInt8 := dkwX3_keeper_3 ++ dktX3_keeper_4
def dkwX3_keeper_2 : List UInt8 := [60, 42, 180, 0, 9, 27, 3, 96, 7, 79, 42, 180, 0, 9, 27, 4, 96, 16, 6, 79, 42, 180, 0, 9]
abbrev dktX3_keeper_2 : List UInt8 := dkwX3_keeper_2 ++ dktX3_keeper_3
def dkwX3_keeper_1 : List UInt8 := [182, 0, 94, 153, 0, 5, 3, 172, 42, 182, 0, 118, 16, 106, 7, 42, 180, 0, 9, 16, 11, 46, 104, 96]
abbrev dktX3_keeper_1 : List UInt8 := dkwX3_keeper_1 ++ dktX3_keeper_2
def dkwX3_keeper_0 : List UInt8 := [42, 4, 42, 42, 180, 0, 9, 16, 11, 46, 6, 160, 0, 7, 4, 167, 0, 4, 3, 4, 6, 182, 0, 108]
abbrev dktX3_keeper_0 : List UInt8 := dkwX3_keeper_0 ++ dktX3_keeper_1
theorem dksX3_keeper_0 : cX3_keeper.data.toList.drop 0 = dktX3_keeper_0 := by decide +kernel
theorem dksX3_keeper_1 : cX3_keeper.data.toList.drop 24 = dktX3_keeper_1 := dk_seg dksX3_keeper_0 24 rfl rfl
theorem dksX3_keeper_2 : cX3_keeper.data.toList.drop 48 = dktX3_keeper_2 := dk_seg dksX3_keeper_1 24 rfl rfl
theorem dksX3_keeper_3 : cX3_keeper.data.toList.drop 72 = dktX3_keeper_3 := dk_seg dksX3_keeper_2 24 rfl rfl
theorem dksX3_keeper_4 : cX3_keeper.data.toList.drop 96 = dktX3_keeper_4 := dk_seg dksX3_keeper_3 24 rfl rfl
theorem dX3_keeper_0 : decode cX3_keeper 0 = .ok (.aload_n 0, 1) := dk_42 (dk_at dksX3_keeper_0 0 rfl rfl)
theorem dX3_keeper_1 : decode cX3_keeper 1 = .ok (.iconst 1, 1) := dk_4 (dk_at dksX3_keeper_0 1 rfl rfl)
theorem dX3_keeper_2 : decode cX3_keeper 2 = .ok (.aload_n 0, 1) := dk_42 (dk_at dksX3_keeper_0 2 rfl rfl)
theorem dX3_keeper_3 : decode cX3_keeper 3 = .ok (.aload_n 0, 1) := dk_42 (dk_at dksX3_keeper_0 3 rfl rfl)
theorem dX3_keeper_4 : decode cX3_keeper 4 = .ok (.getfield 9, 3) := dk_180 0 9 (dk_at dksX3_keeper_0 4 rfl rfl)
theorem dX3_keeper_7 : decode cX3_keeper 7 = .ok (.bipush 11, 2) := dk_16 11 (dk_at dksX3_keeper_0 7 rfl rfl)
theorem dX3_keeper_9 : decode cX3_keeper 9 = .ok (.iaload, 1) := dk_46 (dk_at dksX3_keeper_0 9 rfl rfl)
theorem dX3_keeper_10 : decode cX3_keeper 10 = .ok (.iconst 3, 1) := dk_6 (dk_at dksX3_keeper_0 10 rfl rfl)
theorem dX3_keeper_11 : decode cX3_keeper 11 = .ok (.if_icmp .ne 7, 3) := dk_160 0 7 (dk_at dksX3_keeper_0 11 rfl rfl)
theorem dX3_keeper_14 : decode cX3_keeper 14 = .ok (.iconst 1, 1) := dk_4 (dk_at dksX3_keeper_0 14 rfl rfl)
theorem dX3_keeper_15 : decode cX3_keeper 15 = .ok (.goto 4, 3) := dk_167 0 4 (dk_at dksX3_keeper_0 15 rfl rfl)
theorem dX3_keeper_18 : decode cX3_keeper 18 = .ok (.iconst 0, 1) := dk_3 (dk_at dksX3_keeper_0 18 rfl rfl)
theorem dX3_keeper_19 : decode cX3_keeper 19 = .ok (.iconst 1, 1) := dk_4 (dk_at dksX3_keeper_0 19 rfl rfl)
theorem dX3_keeper_20 : decode cX3_keeper 20 = .ok (.iconst 3, 1) := dk_6 (dk_at dksX3_keeper_0 20 rfl rfl)
theorem dX3_keeper_21 : decode cX3_keeper 21 = .ok (.invokevirtual 108, 3) := dk_182 0 108 (dk_at dksX3_keeper_0 21 rfl rfl)
theorem dX3_keeper_24 : decode cX3_keeper 24 = .ok (.invokevirtual 94, 3) := dk_182 0 94 (dk_at dksX3_keeper_1 0 rfl rfl)
theorem dX3_keeper_27 : decode cX3_keeper 27 = .ok (.ifCond .eq 5, 3) := dk_153 0 5 (dk_at dksX3_keeper_1 3 rfl rfl)
theorem dX3_keeper_30 : decode cX3_keeper 30 = .ok (.iconst 0, 1) := dk_3 (dk_at dksX3_keeper_1 6 rfl rfl)
theorem dX3_keeper_31 : decode cX3_keeper 31 = .ok (.ireturn, 1) := dk_172 (dk_at dksX3_keeper_1 7 rfl rfl)
theorem dX3_keeper_32 : decode cX3_keeper 32 = .ok (.aload_n 0, 1) := dk_42 (dk_at dksX3_keeper_1 8 rfl rfl)
theorem dX3_keeper_33 : decode cX3_keeper 33 = .ok (.invokevirtual 118, 3) := dk_182 0 118 (dk_at dksX3_keeper_1 9 rfl rfl)
theorem dX3_keeper_36 : decode cX3_keeper 36 = .ok (.bipush 106, 2) := dk_16 106 (dk_at dksX3_keeper_1 12 rfl rfl)
theorem dX3_keeper_38 : decode cX3_keeper 38 = .ok (.iconst 4, 1) := dk_7 (dk_at dksX3_keeper_1 14 rfl rfl)
theorem dX3_keeper_39 : decode cX3_keeper 39 = .ok (.aload_n 0, 1) := dk_42 (dk_at dksX3_keeper_1 15 rfl rfl)
theorem dX3_keeper_40 : decode cX3_keeper 40 = .ok (.getfield 9, 3) := dk_180 0 9 (dk_at dksX3_keeper_1 16 rfl rfl)
theorem dX3_keeper_43 : decode cX3_keeper 43 = .ok (.bipush 11, 2) := dk_16 11 (dk_at dksX3_keeper_1 19 rfl rfl)
theorem dX3_keeper_45 : decode cX3_keeper 45 = .ok (.iaload, 1) := dk_46 (dk_at dksX3_keeper_1 21 rfl rfl)
theorem dX3_keeper_46 : decode cX3_keeper 46 = .ok (.imul, 1) := dk_104 (dk_at dksX3_keeper_1 22 rfl rfl)
theorem dX3_keeper_47 : decode cX3_keeper 47 = .ok (.iadd, 1) := dk_96 (dk_at dksX3_keeper_1 23 rfl rfl)
theorem dX3_keeper_48 : decode cX3_keeper 48 = .ok (.istore_n 1, 1) := dk_60 (dk_at dksX3_keeper_2 0 rfl rfl)
theorem dX3_keeper_49 : decode cX3_keeper 49 = .ok (.aload_n 0, 1) := dk_42 (dk_at dksX3_keeper_2 1 rfl rfl)
theorem dX3_keeper_50 : decode cX3_keeper 50 = .ok (.getfield 9, 3) := dk_180 0 9 (dk_at dksX3_keeper_2 2 rfl rfl)
theorem dX3_keeper_53 : decode cX3_keeper 53 = .ok (.iload_n 1, 1) := dk_27 (dk_at dksX3_keeper_2 5 rfl rfl)
theorem dX3_keeper_54 : decode cX3_keeper 54 = .ok (.iconst 0, 1) := dk_3 (dk_at dksX3_keeper_2 6 rfl rfl)
theorem dX3_keeper_55 : decode cX3_keeper 55 = .ok (.iadd, 1) := dk_96 (dk_at dksX3_keeper_2 7 rfl rfl)
theorem dX3_keeper_56 : decode cX3_keeper 56 = .ok (.iconst 4, 1) := dk_7 (dk_at dksX3_keeper_2 8 rfl rfl)
theorem dX3_keeper_57 : decode cX3_keeper 57 = .ok (.iastore, 1) := dk_79 (dk_at dksX3_keeper_2 9 rfl rfl)
theorem dX3_keeper_58 : decode cX3_keeper 58 = .ok (.aload_n 0, 1) := dk_42 (dk_at dksX3_keeper_2 10 rfl rfl)
theorem dX3_keeper_59 : decode cX3_keeper 59 = .ok (.getfield 9, 3) := dk_180 0 9 (dk_at dksX3_keeper_2 11 rfl rfl)
theorem dX3_keeper_62 : decode cX3_keeper 62 = .ok (.iload_n 1, 1) := dk_27 (dk_at dksX3_keeper_2 14 rfl rfl)
theorem dX3_keeper_63 : decode cX3_keeper 63 = .ok (.iconst 1, 1) := dk_4 (dk_at dksX3_keeper_2 15 rfl rfl)
theorem dX3_keeper_64 : decode cX3_keeper 64 = .ok (.iadd, 1) := dk_96 (dk_at dksX3_keeper_2 16 rfl rfl)
theorem dX3_keeper_65 : decode cX3_keeper 65 = .ok (.bipush 6, 2) := dk_16 6 (dk_at dksX3_keeper_2 17 rfl rfl)
theorem dX3_keeper_67 : decode cX3_keeper 67 = .ok (.iastore, 1) := dk_79 (dk_at dksX3_keeper_2 19 rfl rfl)
theorem dX3_keeper_68 : decode cX3_keeper 68 = .ok (.aload_n 0, 1) := dk_42 (dk_at dksX3_keeper_2 20 rfl rfl)
theorem dX3_keeper_69 : decode cX3_keeper 69 = .ok (.getfield 9, 3) := dk_180 0 9 (dk_at dksX3_keeper_2 21 rfl rfl)
theorem dX3_keeper_72 : decode cX3_keeper 72 = .ok (.iload_n 1, 1) := dk_27 (dk_at dksX3_keeper_3 0 rfl rfl)
theorem dX3_keeper_73 : decode cX3_keeper 73 = .ok (.iconst 2, 1) := dk_5 (dk_at dksX3_keeper_3 1 rfl rfl)
theorem dX3_keeper_74 : decode cX3_keeper 74 = .ok (.iadd, 1) := dk_96 (dk_at dksX3_keeper_3 2 rfl rfl)
theorem dX3_keeper_75 : decode cX3_keeper 75 = .ok (.iconst 0, 1) := dk_3 (dk_at dksX3_keeper_3 3 rfl rfl)
theorem dX3_keeper_76 : decode cX3_keeper 76 = .ok (.iastore, 1) := dk_79 (dk_at dksX3_keeper_3 4 rfl rfl)
theorem dX3_keeper_77 : decode cX3_keeper 77 = .ok (.aload_n 0, 1) := dk_42 (dk_at dksX3_keeper_3 5 rfl rfl)
theorem dX3_keeper_78 : decode cX3_keeper 78 = .ok (.getfield 9, 3) := dk_180 0 9 (dk_at dksX3_keeper_3 6 rfl rfl)
theorem dX3_keeper_81 : decode cX3_keeper 81 = .ok (.iload_n 1, 1) := dk_27 (dk_at dksX3_keeper_3 9 rfl rfl)
theorem dX3_keeper_82 : decode cX3_keeper 82 = .ok (.iconst 3, 1) := dk_6 (dk_at dksX3_keeper_3 10 rfl rfl)
theorem dX3_keeper_83 : decode cX3_keeper 83 = .ok (.iadd, 1) := dk_96 (dk_at dksX3_keeper_3 11 rfl rfl)
theorem dX3_keeper_84 : decode cX3_keeper 84 = .ok (.iconst 0, 1) := dk_3 (dk_at dksX3_keeper_3 12 rfl rfl)
theorem dX3_keeper_85 : decode cX3_keeper 85 = .ok (.iastore, 1) := dk_79 (dk_at dksX3_keeper_3 13 rfl rfl)
theorem dX3_keeper_86 : decode cX3_keeper 86 = .ok (.aload_n 0, 1) := dk_42 (dk_at dksX3_keeper_3 14 rfl rfl)
theorem dX3_keeper_87 : decode cX3_keeper 87 = .ok (.getfield 9, 3) := dk_180 0 9 (dk_at dksX3_keeper_3 15 rfl rfl)
theorem dX3_keeper_90 : decode cX3_keeper 90 = .ok (.bipush 11, 2) := dk_16 11 (dk_at dksX3_keeper_3 18 rfl rfl)
theorem dX3_keeper_92 : decode cX3_keeper 92 = .ok (.dup2, 1) := dk_92 (dk_at dksX3_keeper_3 20 rfl rfl)
theorem dX3_keeper_93 : decode cX3_keeper 93 = .ok (.iaload, 1) := dk_46 (dk_at dksX3_keeper_3 21 rfl rfl)
theorem dX3_keeper_94 : decode cX3_keeper 94 = .ok (.iconst 1, 1) := dk_4 (dk_at dksX3_keeper_3 22 rfl rfl)
theorem dX3_keeper_95 : decode cX3_keeper 95 = .ok (.iadd, 1) := dk_96 (dk_at dksX3_keeper_3 23 rfl rfl)
theorem dX3_keeper_96 : decode cX3_keeper 96 = .ok (.iastore, 1) := dk_79 (dk_at dksX3_keeper_4 0 rfl rfl)
theorem dX3_keeper_97 : decode cX3_keeper 97 = .ok (.aload_n 0, 1) := dk_42 (dk_at dksX3_keeper_4 1 rfl rfl)
theorem dX3_keeper_98 : decode cX3_keeper 98 = .ok (.getfield 9, 3) := dk_180 0 9 (dk_at dksX3_keeper_4 2 rfl rfl)
theorem dX3_keeper_101 : decode cX3_keeper 101 = .ok (.bipush 11, 2) := dk_16 11 (dk_at dksX3_keeper_4 5 rfl rfl)
theorem dX3_keeper_103 : decode cX3_keeper 103 = .ok (.iaload, 1) := dk_46 (dk_at dksX3_keeper_4 7 rfl rfl)
theorem dX3_keeper_104 : decode cX3_keeper 104 = .ok (.iconst 1, 1) := dk_4 (dk_at dksX3_keeper_4 8 rfl rfl)
theorem dX3_keeper_105 : decode cX3_keeper 105 = .ok (.isub, 1) := dk_100 (dk_at dksX3_keeper_4 9 rfl rfl)
theorem dX3_keeper_106 : decode cX3_keeper 106 = .ok (.ireturn, 1) := dk_172 (dk_at dksX3_keeper_4 10 rfl rfl)
abbrev cX3_keeperOf : ByteArray := prog_14_method_46_code
def yX3_keeperOf : MethodName := ⟨RX3, "keeperOf", "(II)I"⟩
def dkwX3_keeperOf_2 : List UInt8 := [27, 28, 182, 0, 161, 172]
abbrev dktX3_keeperOf_2 : List UInt8 := dkwX3_keeperOf_2 ++ []
def dkwX3_keeperOf_1 : List UInt8 := [3, 6, 184, 0, 68, 154, 0, 7, 4, 167, 0, 4, 3, 182, 0, 94, 153, 0, 7, 3, 167, 0, 9, 42]
abbrev dktX3_keeperOf_1 : List UInt8 := dkwX3_keeperOf_1 ++ dktX3_keeperOf_2
def dkwX3_keeperOf_0 : List UInt8 := [42, 4, 42, 27, 182, 0, 158, 154, 0, 7, 4, 167, 0, 4, 3, 182, 0, 94, 154, 0, 25, 42, 5, 28]
abbrev dktX3_keeperOf_0 : List UInt8 := dkwX3_keeperOf_0 ++ dktX3_keeperOf_1
theorem dksX3_keeperOf_0 : cX3_keeperOf.data.toList.drop 0 = dktX3_keeperOf_0 := by decide +kernel
theorem dksX3_keeperOf_1 : cX3_keeperOf.data.toList.drop 24 = dktX3_keeperOf_1 := dk_seg dksX3_keeperOf_0 24 rfl rfl
theorem dksX3_keeperOf_2 : cX3_keeperOf.data.toList.drop 48 = dktX3_keeperOf_2 := dk_seg dksX3_keeperOf_1 24 rfl rfl
theorem dX3_keeperOf_0 : decode cX3_keeperOf 0 = .ok (.aload_n 0, 1) := dk_42 (dk_at dksX3_keeperOf_0 0 rfl rfl)
theorem dX3_keeperOf_1 : decode cX3_keeperOf 1 = .ok (.iconst 1, 1) := dk_4 (dk_at dksX3_keeperOf_0 1 rfl rfl)
theorem dX3_keeperOf_2 : decode cX3_keeperOf 2 = .ok (.aload_n 0, 1) := dk_42 (dk_at dksX3_keeperOf_0 2 rfl rfl)
theorem dX3_keeperOf_3 : decode cX3_keeperOf 3 = .ok (.iload_n 1, 1) := dk_27 (dk_at dksX3_keeperOf_0 3 rfl rfl)
theorem dX3_keeperOf_4 : decode cX3_keeperOf 4 = .ok (.invokevirtual 158, 3) := dk_182 0 158 (dk_at dksX3_keeperOf_0 4 rfl rfl)
theorem dX3_keeperOf_7 : decode cX3_keeperOf 7 = .ok (.ifCond .ne 7, 3) := dk_154 0 7 (dk_at dksX3_keeperOf_0 7 rfl rfl)
theorem dX3_keeperOf_10 : decode cX3_keeperOf 10 = .ok (.iconst 1, 1) := dk_4 (dk_at dksX3_keeperOf_0 10 rfl rfl)
theorem dX3_keeperOf_11 : decode cX3_keeperOf 11 = .ok (.goto 4, 3) := dk_167 0 4 (dk_at dksX3_keeperOf_0 11 rfl rfl)
theorem dX3_keeperOf_14 : decode cX3_keeperOf 14 = .ok (.iconst 0, 1) := dk_3 (dk_at dksX3_keeperOf_0 14 rfl rfl)
theorem dX3_keeperOf_15 : decode cX3_keeperOf 15 = .ok (.invokevirtual 94, 3) := dk_182 0 94 (dk_at dksX3_keeperOf_0 15 rfl rfl)
theorem dX3_keeperOf_18 : decode cX3_keeperOf 18 = .ok (.ifCond .ne 25, 3) := dk_154 0 25 (dk_at dksX3_keeperOf_0 18 rfl rfl)
theorem dX3_keeperOf_21 : decode cX3_keeperOf 21 = .ok (.aload_n 0, 1) := dk_42 (dk_at dksX3_keeperOf_0 21 rfl rfl)
theorem dX3_keeperOf_22 : decode cX3_keeperOf 22 = .ok (.iconst 2, 1) := dk_5 (dk_at dksX3_keeperOf_0 22 rfl rfl)
theorem dX3_keeperOf_23 : decode cX3_keeperOf 23 = .ok (.iload_n 2, 1) := dk_28 (dk_at dksX3_keeperOf_0 23 rfl rfl)
theorem dX3_keeperOf_24 : decode cX3_keeperOf 24 = .ok (.iconst 0, 1) := dk_3 (dk_at dksX3_keeperOf_1 0 rfl rfl)
theorem dX3_keeperOf_25 : decode cX3_keeperOf 25 = .ok (.iconst 3, 1) := dk_6 (dk_at dksX3_keeperOf_1 1 rfl rfl)
theorem dX3_keeperOf_26 : decode cX3_keeperOf 26 = .ok (.invokestatic 68, 3) := dk_184 0 68 (dk_at dksX3_keeperOf_1 2 rfl rfl)
theorem dX3_keeperOf_29 : decode cX3_keeperOf 29 = .ok (.ifCond .ne 7, 3) := dk_154 0 7 (dk_at dksX3_keeperOf_1 5 rfl rfl)
theorem dX3_keeperOf_32 : decode cX3_keeperOf 32 = .ok (.iconst 1, 1) := dk_4 (dk_at dksX3_keeperOf_1 8 rfl rfl)
theorem dX3_keeperOf_33 : decode cX3_keeperOf 33 = .ok (.goto 4, 3) := dk_167 0 4 (dk_at dksX3_keeperOf_1 9 rfl rfl)
theorem dX3_keeperOf_36 : decode cX3_keeperOf 36 = .ok (.iconst 0, 1) := dk_3 (dk_at dksX3_keeperOf_1 12 rfl rfl)
theorem dX3_keeperOf_37 : decode cX3_keeperOf 37 = .ok (.invokevirtual 94, 3) := dk_182 0 94 (dk_at dksX3_keeperOf_1 13 rfl rfl)
theorem dX3_keeperOf_40 : decode cX3_keeperOf 40 = .ok (.ifCond .eq 7, 3) := dk_153 0 7 (dk_at dksX3_keeperOf_1 16 rfl rfl)
theorem dX3_keeperOf_43 : decode cX3_keeperOf 43 = .ok (.iconst 0, 1) := dk_3 (dk_at dksX3_keeperOf_1 19 rfl rfl)
theorem dX3_keeperOf_44 : decode cX3_keeperOf 44 = .ok (.goto 9, 3) := dk_167 0 9 (dk_at dksX3_keeperOf_1 20 rfl rfl)
theorem dX3_keeperOf_47 : decode cX3_keeperOf 47 = .ok (.aload_n 0, 1) := dk_42 (dk_at dksX3_keeperOf_1 23 rfl rfl)
theorem dX3_keeperOf_48 : decode cX3_keeperOf 48 = .ok (.iload_n 1, 1) := dk_27 (dk_at dksX3_keeperOf_2 0 rfl rfl)
theorem dX3_keeperOf_49 : decode cX3_keeperOf 49 = .ok (.iload_n 2, 1) := dk_28 (dk_at dksX3_keeperOf_2 1 rfl rfl)
theorem dX3_keeperOf_50 : decode cX3_keeperOf 50 = .ok (.invokevirtual 161, 3) := dk_182 0 161 (dk_at dksX3_keeperOf_2 2 rfl rfl)
theorem dX3_keeperOf_53 : decode cX3_keeperOf 53 = .ok (.ireturn, 1) := dk_172 (dk_at dksX3_keeperOf_2 5 rfl rfl)
abbrev cX3_isKeeper : ByteArray := prog_14_method_42_code
def yX3_isKeeper : MethodName := ⟨RX3, "isKeeper", "(I)Z"⟩
def dkwX3_isKeeper_0 : List UInt8 := [27, 3, 42, 180, 0, 9, 16, 11, 46, 4, 100, 184, 0, 68, 172]
abbrev dktX3_isKeeper_0 : List UInt8 := dkwX3_isKeeper_0 ++ []
theorem dksX3_isKeeper_0 : cX3_isKeeper.data.toList.drop 0 = dktX3_isKeeper_0 := by decide +kernel
theorem dX3_isKeeper_0 : decode cX3_isKeeper 0 = .ok (.iload_n 1, 1) := dk_27 (dk_at dksX3_isKeeper_0 0 rfl rfl)
theorem dX3_isKeeper_1 : decode cX3_isKeeper 1 = .ok (.iconst 0, 1) := dk_3 (dk_at dksX3_isKeeper_0 1 rfl rfl)
theorem dX3_isKeeper_2 : decode cX3_isKeeper 2 = .ok (.aload_n 0, 1) := dk_42 (dk_at dksX3_isKeeper_0 2 rfl rfl)
theorem dX3_isKeeper_3 : decode cX3_isKeeper 3 = .ok (.getfield 9, 3) := dk_180 0 9 (dk_at dksX3_isKeeper_0 3 rfl rfl)
theorem dX3_isKeeper_6 : decode cX3_isKeeper 6 = .ok (.bipush 11, 2) := dk_16 11 (dk_at dksX3_isKeeper_0 6 rfl rfl)
theorem dX3_isKeeper_8 : decode cX3_isKeeper 8 = .ok (.iaload, 1) := dk_46 (dk_at dksX3_isKeeper_0 8 rfl rfl)
theorem dX3_isKeeper_9 : decode cX3_isKeeper 9 = .ok (.iconst 1, 1) := dk_4 (dk_at dksX3_isKeeper_0 9 rfl rfl)
theorem dX3_isKeeper_10 : decode cX3_isKeeper 10 = .ok (.isub, 1) := dk_100 (dk_at dksX3_isKeeper_0 10 rfl rfl)
theorem dX3_isKeeper_11 : decode cX3_isKeeper 11 = .ok (.invokestatic 68, 3) := dk_184 0 68 (dk_at dksX3_isKeeper_0 11 rfl rfl)
theorem dX3_isKeeper_14 : decode cX3_isKeeper 14 = .ok (.ireturn, 1) := dk_172 (dk_at dksX3_isKeeper_0 14 rfl rfl)
abbrev cX3_ofKeeper : ByteArray := prog_14_method_43_code
def yX3_ofKeeper : MethodName := ⟨RX3, "ofKeeper", "(II)I"⟩
def dkwX3_ofKeeper_0 : List UInt8 := [42, 180, 0, 9, 16, 106, 7, 27, 104, 96, 28, 96, 46, 172]
abbrev dktX3_ofKeeper_0 : List UInt8 := dkwX3_ofKeeper_0 ++ []
theorem dksX3_ofKeeper_0 : cX3_ofKeeper.data.toList.drop 0 = dktX3_ofKeeper_0 := by decide +kernel
theorem dX3_ofKeeper_0 : decode cX3_ofKeeper 0 = .ok (.aload_n 0, 1) := dk_42 (dk_at dksX3_ofKeeper_0 0 rfl rfl)
theorem dX3_ofKeeper_1 : decode cX3_ofKeeper 1 = .ok (.getfield 9, 3) := dk_180 0 9 (dk_at dksX3_ofKeeper_0 1 rfl rfl)
theorem dX3_ofKeeper_4 : decode cX3_ofKeeper 4 = .ok (.bipush 106, 2) := dk_16 106 (dk_at dksX3_ofKeeper_0 4 rfl rfl)
theorem dX3_ofKeeper_6 : decode cX3_ofKeeper 6 = .ok (.iconst 4, 1) := dk_7 (dk_at dksX3_ofKeeper_0 6 rfl rfl)
theorem dX3_ofKeeper_7 : decode cX3_ofKeeper 7 = .ok (.iload_n 1, 1) := dk_27 (dk_at dksX3_ofKeeper_0 7 rfl rfl)
theorem dX3_ofKeeper_8 : decode cX3_ofKeeper 8 = .ok (.imul, 1) := dk_104 (dk_at dksX3_ofKeeper_0 8 rfl rfl)
theorem dX3_ofKeeper_9 : decode cX3_ofKeeper 9 = .ok (.iadd, 1) := dk_96 (dk_at dksX3_ofKeeper_0 9 rfl rfl)
theorem dX3_ofKeeper_10 : decode cX3_ofKeeper 10 = .ok (.iload_n 2, 1) := dk_28 (dk_at dksX3_ofKeeper_0 10 rfl rfl)
theorem dX3_ofKeeper_11 : decode cX3_ofKeeper 11 = .ok (.iadd, 1) := dk_96 (dk_at dksX3_ofKeeper_0 11 rfl rfl)
theorem dX3_ofKeeper_12 : decode cX3_ofKeeper 12 = .ok (.iaload, 1) := dk_46 (dk_at dksX3_ofKeeper_0 12 rfl rfl)
theorem dX3_ofKeeper_13 : decode cX3_ofKeeper 13 = .ok (.ireturn, 1) := dk_172 (dk_at dksX3_ofKeeper_0 13 rfl rfl)
abbrev cX3_walk : ByteArray := prog_14_method_49_code
def yX3_walk : MethodName := ⟨RX3, "walk", "(II)I"⟩
def dkwX3_walk_4 : List UInt8 := [182, 0, 170, 42, 27, 4, 182, 0, 161, 172]
abbrev dktX3_walk_4 : List UInt8 := dkwX3_walk_4 ++ []
def dkwX3_walk_3 : List UInt8 := [153, 0, 5, 3, 172, 42, 182, 0, 118, 42, 27, 4, 21, 4, 116, 182, 0, 170, 42, 27, 3, 28, 29, 100]
abbrev dktX3_walk_3 : List UInt8 := dkwX3_walk_3 ++ dktX3_walk_4
def dkwX3_walk_2 : List UInt8 := [29, 6, 112, 28, 6, 112, 184, 0, 164, 96, 54, 4, 42, 5, 42, 27, 21, 4, 182, 0, 167, 182, 0, 94]
abbrev dktX3_walk_2 : List UInt8 := dkwX3_walk_2 ++ dktX3_walk_3
def dkwX3_walk_1 : List UInt8 := [182, 0, 94, 153, 0, 5, 3, 172, 42, 27, 3, 182, 0, 161, 62, 29, 6, 108, 28, 6, 108, 184, 0, 164]
abbrev dktX3_walk_1 : List UInt8 := dkwX3_walk_1 ++ dktX3_walk_2
def dkwX3_walk_0 : List UInt8 := [42, 4, 42, 27, 182, 0, 158, 153, 0, 10, 28, 184, 0, 112, 154, 0, 7, 4, 167, 0, 4, 3]
abbrev dktX3_walk_0 : List UInt8 := dkwX3_walk_0 ++ dktX3_walk_1
theorem dksX3_walk_0 : cX3_walk.data.toList.drop 0 = dktX3_walk_0 := by decide +kernel
theorem dksX3_walk_1 : cX3_walk.data.toList.drop 22 = dktX3_walk_1 := dk_seg dksX3_walk_0 22 rfl rfl
theorem dksX3_walk_2 : cX3_walk.data.toList.drop 46 = dktX3_walk_2 := dk_seg dksX3_walk_1 24 rfl rfl
theorem dksX3_walk_3 : cX3_walk.data.toList.drop 70 = dktX3_walk_3 := dk_seg dksX3_walk_2 24 rfl rfl
theorem dksX3_walk_4 : cX3_walk.data.toList.drop 94 = dktX3_walk_4 := dk_seg dksX3_walk_3 24 rfl rfl
theorem dX3_walk_0 : decode cX3_walk 0 = .ok (.aload_n 0, 1) := dk_42 (dk_at dksX3_walk_0 0 rfl rfl)
theorem dX3_walk_1 : decode cX3_walk 1 = .ok (.iconst 1, 1) := dk_4 (dk_at dksX3_walk_0 1 rfl rfl)
theorem dX3_walk_2 : decode cX3_walk 2 = .ok (.aload_n 0, 1) := dk_42 (dk_at dksX3_walk_0 2 rfl rfl)
theorem dX3_walk_3 : decode cX3_walk 3 = .ok (.iload_n 1, 1) := dk_27 (dk_at dksX3_walk_0 3 rfl rfl)
theorem dX3_walk_4 : decode cX3_walk 4 = .ok (.invokevirtual 158, 3) := dk_182 0 158 (dk_at dksX3_walk_0 4 rfl rfl)
theorem dX3_walk_7 : decode cX3_walk 7 = .ok (.ifCond .eq 10, 3) := dk_153 0 10 (dk_at dksX3_walk_0 7 rfl rfl)
theorem dX3_walk_10 : decode cX3_walk 10 = .ok (.iload_n 2, 1) := dk_28 (dk_at dksX3_walk_0 10 rfl rfl)
theorem dX3_walk_11 : decode cX3_walk 11 = .ok (.invokestatic 112, 3) := dk_184 0 112 (dk_at dksX3_walk_0 11 rfl rfl)
theorem dX3_walk_14 : decode cX3_walk 14 = .ok (.ifCond .ne 7, 3) := dk_154 0 7 (dk_at dksX3_walk_0 14 rfl rfl)
theorem dX3_walk_17 : decode cX3_walk 17 = .ok (.iconst 1, 1) := dk_4 (dk_at dksX3_walk_0 17 rfl rfl)
theorem dX3_walk_18 : decode cX3_walk 18 = .ok (.goto 4, 3) := dk_167 0 4 (dk_at dksX3_walk_0 18 rfl rfl)
theorem dX3_walk_21 : decode cX3_walk 21 = .ok (.iconst 0, 1) := dk_3 (dk_at dksX3_walk_0 21 rfl rfl)
theorem dX3_walk_22 : decode cX3_walk 22 = .ok (.invokevirtual 94, 3) := dk_182 0 94 (dk_at dksX3_walk_1 0 rfl rfl)
theorem dX3_walk_25 : decode cX3_walk 25 = .ok (.ifCond .eq 5, 3) := dk_153 0 5 (dk_at dksX3_walk_1 3 rfl rfl)
theorem dX3_walk_28 : decode cX3_walk 28 = .ok (.iconst 0, 1) := dk_3 (dk_at dksX3_walk_1 6 rfl rfl)
theorem dX3_walk_29 : decode cX3_walk 29 = .ok (.ireturn, 1) := dk_172 (dk_at dksX3_walk_1 7 rfl rfl)
theorem dX3_walk_30 : decode cX3_walk 30 = .ok (.aload_n 0, 1) := dk_42 (dk_at dksX3_walk_1 8 rfl rfl)
theorem dX3_walk_31 : decode cX3_walk 31 = .ok (.iload_n 1, 1) := dk_27 (dk_at dksX3_walk_1 9 rfl rfl)
theorem dX3_walk_32 : decode cX3_walk 32 = .ok (.iconst 0, 1) := dk_3 (dk_at dksX3_walk_1 10 rfl rfl)
theorem dX3_walk_33 : decode cX3_walk 33 = .ok (.invokevirtual 161, 3) := dk_182 0 161 (dk_at dksX3_walk_1 11 rfl rfl)
theorem dX3_walk_36 : decode cX3_walk 36 = .ok (.istore_n 3, 1) := dk_62 (dk_at dksX3_walk_1 14 rfl rfl)
theorem dX3_walk_37 : decode cX3_walk 37 = .ok (.iload_n 3, 1) := dk_29 (dk_at dksX3_walk_1 15 rfl rfl)
theorem dX3_walk_38 : decode cX3_walk 38 = .ok (.iconst 3, 1) := dk_6 (dk_at dksX3_walk_1 16 rfl rfl)
theorem dX3_walk_39 : decode cX3_walk 39 = .ok (.idiv, 1) := dk_108 (dk_at dksX3_walk_1 17 rfl rfl)
theorem dX3_walk_40 : decode cX3_walk 40 = .ok (.iload_n 2, 1) := dk_28 (dk_at dksX3_walk_1 18 rfl rfl)
theorem dX3_walk_41 : decode cX3_walk 41 = .ok (.iconst 3, 1) := dk_6 (dk_at dksX3_walk_1 19 rfl rfl)
theorem dX3_walk_42 : decode cX3_walk 42 = .ok (.idiv, 1) := dk_108 (dk_at dksX3_walk_1 20 rfl rfl)
theorem dX3_walk_43 : decode cX3_walk 43 = .ok (.invokestatic 164, 3) := dk_184 0 164 (dk_at dksX3_walk_1 21 rfl rfl)
theorem dX3_walk_46 : decode cX3_walk 46 = .ok (.iload_n 3, 1) := dk_29 (dk_at dksX3_walk_2 0 rfl rfl)
theorem dX3_walk_47 : decode cX3_walk 47 = .ok (.iconst 3, 1) := dk_6 (dk_at dksX3_walk_2 1 rfl rfl)
theorem dX3_walk_48 : decode cX3_walk 48 = .ok (.irem, 1) := dk_112 (dk_at dksX3_walk_2 2 rfl rfl)
theorem dX3_walk_49 : decode cX3_walk 49 = .ok (.iload_n 2, 1) := dk_28 (dk_at dksX3_walk_2 3 rfl rfl)
theorem dX3_walk_50 : decode cX3_walk 50 = .ok (.iconst 3, 1) := dk_6 (dk_at dksX3_walk_2 4 rfl rfl)
theorem dX3_walk_51 : decode cX3_walk 51 = .ok (.irem, 1) := dk_112 (dk_at dksX3_walk_2 5 rfl rfl)
theorem dX3_walk_52 : decode cX3_walk 52 = .ok (.invokestatic 164, 3) := dk_184 0 164 (dk_at dksX3_walk_2 6 rfl rfl)
theorem dX3_walk_55 : decode cX3_walk 55 = .ok (.iadd, 1) := dk_96 (dk_at dksX3_walk_2 9 rfl rfl)
theorem dX3_walk_56 : decode cX3_walk 56 = .ok (.istore 4, 2) := dk_54 4 (dk_at dksX3_walk_2 10 rfl rfl)
theorem dX3_walk_58 : decode cX3_walk 58 = .ok (.aload_n 0, 1) := dk_42 (dk_at dksX3_walk_2 12 rfl rfl)
theorem dX3_walk_59 : decode cX3_walk 59 = .ok (.iconst 2, 1) := dk_5 (dk_at dksX3_walk_2 13 rfl rfl)
theorem dX3_walk_60 : decode cX3_walk 60 = .ok (.aload_n 0, 1) := dk_42 (dk_at dksX3_walk_2 14 rfl rfl)
theorem dX3_walk_61 : decode cX3_walk 61 = .ok (.iload_n 1, 1) := dk_27 (dk_at dksX3_walk_2 15 rfl rfl)
theorem dX3_walk_62 : decode cX3_walk 62 = .ok (.iload 4, 2) := dk_21 4 (dk_at dksX3_walk_2 16 rfl rfl)
theorem dX3_walk_64 : decode cX3_walk 64 = .ok (.invokevirtual 167, 3) := dk_182 0 167 (dk_at dksX3_walk_2 18 rfl rfl)
theorem dX3_walk_67 : decode cX3_walk 67 = .ok (.invokevirtual 94, 3) := dk_182 0 94 (dk_at dksX3_walk_2 21 rfl rfl)
theorem dX3_walk_70 : decode cX3_walk 70 = .ok (.ifCond .eq 5, 3) := dk_153 0 5 (dk_at dksX3_walk_3 0 rfl rfl)
theorem dX3_walk_73 : decode cX3_walk 73 = .ok (.iconst 0, 1) := dk_3 (dk_at dksX3_walk_3 3 rfl rfl)
theorem dX3_walk_74 : decode cX3_walk 74 = .ok (.ireturn, 1) := dk_172 (dk_at dksX3_walk_3 4 rfl rfl)
theorem dX3_walk_75 : decode cX3_walk 75 = .ok (.aload_n 0, 1) := dk_42 (dk_at dksX3_walk_3 5 rfl rfl)
theorem dX3_walk_76 : decode cX3_walk 76 = .ok (.invokevirtual 118, 3) := dk_182 0 118 (dk_at dksX3_walk_3 6 rfl rfl)
theorem dX3_walk_79 : decode cX3_walk 79 = .ok (.aload_n 0, 1) := dk_42 (dk_at dksX3_walk_3 9 rfl rfl)
theorem dX3_walk_80 : decode cX3_walk 80 = .ok (.iload_n 1, 1) := dk_27 (dk_at dksX3_walk_3 10 rfl rfl)
theorem dX3_walk_81 : decode cX3_walk 81 = .ok (.iconst 1, 1) := dk_4 (dk_at dksX3_walk_3 11 rfl rfl)
theorem dX3_walk_82 : decode cX3_walk 82 = .ok (.iload 4, 2) := dk_21 4 (dk_at dksX3_walk_3 12 rfl rfl)
theorem dX3_walk_84 : decode cX3_walk 84 = .ok (.ineg, 1) := dk_116 (dk_at dksX3_walk_3 14 rfl rfl)
theorem dX3_walk_85 : decode cX3_walk 85 = .ok (.invokevirtual 170, 3) := dk_182 0 170 (dk_at dksX3_walk_3 15 rfl rfl)
theorem dX3_walk_88 : decode cX3_walk 88 = .ok (.aload_n 0, 1) := dk_42 (dk_at dksX3_walk_3 18 rfl rfl)
theorem dX3_walk_89 : decode cX3_walk 89 = .ok (.iload_n 1, 1) := dk_27 (dk_at dksX3_walk_3 19 rfl rfl)
theorem dX3_walk_90 : decode cX3_walk 90 = .ok (.iconst 0, 1) := dk_3 (dk_at dksX3_walk_3 20 rfl rfl)
theorem dX3_walk_91 : decode cX3_walk 91 = .ok (.iload_n 2, 1) := dk_28 (dk_at dksX3_walk_3 21 rfl rfl)
theorem dX3_walk_92 : decode cX3_walk 92 = .ok (.iload_n 3, 1) := dk_29 (dk_at dksX3_walk_3 22 rfl rfl)
theorem dX3_walk_93 : decode cX3_walk 93 = .ok (.isub, 1) := dk_100 (dk_at dksX3_walk_3 23 rfl rfl)
theorem dX3_walk_94 : decode cX3_walk 94 = .ok (.invokevirtual 170, 3) := dk_182 0 170 (dk_at dksX3_walk_4 0 rfl rfl)
theorem dX3_walk_97 : decode cX3_walk 97 = .ok (.aload_n 0, 1) := dk_42 (dk_at dksX3_walk_4 3 rfl rfl)
theorem dX3_walk_98 : decode cX3_walk 98 = .ok (.iload_n 1, 1) := dk_27 (dk_at dksX3_walk_4 4 rfl rfl)
theorem dX3_walk_99 : decode cX3_walk 99 = .ok (.iconst 1, 1) := dk_4 (dk_at dksX3_walk_4 5 rfl rfl)
theorem dX3_walk_100 : decode cX3_walk 100 = .ok (.invokevirtual 161, 3) := dk_182 0 161 (dk_at dksX3_walk_4 6 rfl rfl)
theorem dX3_walk_103 : decode cX3_walk 103 = .ok (.ireturn, 1) := dk_172 (dk_at dksX3_walk_4 9 rfl rfl)
abbrev cX3_apart : ByteArray := prog_14_method_47_code
def yX3_apart : MethodName := ⟨RX3, "apart", "(II)I"⟩
def dkwX3_apart_0 : List UInt8 := [26, 27, 162, 0, 9, 27, 26, 100, 167, 0, 6, 26, 27, 100, 172]
abbrev dktX3_apart_0 : List UInt8 := dkwX3_apart_0 ++ []
theorem dksX3_apart_0 : cX3_apart.data.toList.drop 0 = dktX3_apart_0 := by decide +kernel
theorem dX3_apart_0 : decode cX3_apart 0 = .ok (.iload_n 0, 1) := dk_26 (dk_at dksX3_apart_0 0 rfl rfl)
theorem dX3_apart_1 : decode cX3_apart 1 = .ok (.iload_n 1, 1) := dk_27 (dk_at dksX3_apart_0 1 rfl rfl)
theorem dX3_apart_2 : decode cX3_apart 2 = .ok (.if_icmp .ge 9, 3) := dk_162 0 9 (dk_at dksX3_apart_0 2 rfl rfl)
theorem dX3_apart_5 : decode cX3_apart 5 = .ok (.iload_n 1, 1) := dk_27 (dk_at dksX3_apart_0 5 rfl rfl)
theorem dX3_apart_6 : decode cX3_apart 6 = .ok (.iload_n 0, 1) := dk_26 (dk_at dksX3_apart_0 6 rfl rfl)
theorem dX3_apart_7 : decode cX3_apart 7 = .ok (.isub, 1) := dk_100 (dk_at dksX3_apart_0 7 rfl rfl)
theorem dX3_apart_8 : decode cX3_apart 8 = .ok (.goto 6, 3) := dk_167 0 6 (dk_at dksX3_apart_0 8 rfl rfl)
theorem dX3_apart_11 : decode cX3_apart 11 = .ok (.iload_n 0, 1) := dk_26 (dk_at dksX3_apart_0 11 rfl rfl)
theorem dX3_apart_12 : decode cX3_apart 12 = .ok (.iload_n 1, 1) := dk_27 (dk_at dksX3_apart_0 12 rfl rfl)
theorem dX3_apart_13 : decode cX3_apart 13 = .ok (.isub, 1) := dk_100 (dk_at dksX3_apart_0 13 rfl rfl)
theorem dX3_apart_14 : decode cX3_apart 14 = .ok (.ireturn, 1) := dk_172 (dk_at dksX3_apart_0 14 rfl rfl)
abbrev cX3_lacksHours : ByteArray := prog_14_method_48_code
def yX3_lacksHours : MethodName := ⟨RX3, "lacksHours", "(II)Z"⟩
def dkwX3_lacksHours_1 : List UInt8 := [182, 0, 161, 100, 182, 0, 108, 172]
abbrev dktX3_lacksHours_1 : List UInt8 := dkwX3_lacksHours_1 ++ []
def dkwX3_lacksHours_0 : List UInt8 := [42, 42, 27, 4, 182, 0, 161, 28, 162, 0, 7, 4, 167, 0, 4, 3, 16, 6, 28, 42, 27, 4]
abbrev dktX3_lacksHours_0 : List UInt8 := dkwX3_lacksHours_0 ++ dktX3_lacksHours_1
theorem dksX3_lacksHours_0 : cX3_lacksHours.data.toList.drop 0 = dktX3_lacksHours_0 := by decide +kernel
theorem dksX3_lacksHours_1 : cX3_lacksHours.data.toList.drop 22 = dktX3_lacksHours_1 := dk_seg dksX3_lacksHours_0 22 rfl rfl
theorem dX3_lacksHours_0 : decode cX3_lacksHours 0 = .ok (.aload_n 0, 1) := dk_42 (dk_at dksX3_lacksHours_0 0 rfl rfl)
theorem dX3_lacksHours_1 : decode cX3_lacksHours 1 = .ok (.aload_n 0, 1) := dk_42 (dk_at dksX3_lacksHours_0 1 rfl rfl)
theorem dX3_lacksHours_2 : decode cX3_lacksHours 2 = .ok (.iload_n 1, 1) := dk_27 (dk_at dksX3_lacksHours_0 2 rfl rfl)
theorem dX3_lacksHours_3 : decode cX3_lacksHours 3 = .ok (.iconst 1, 1) := dk_4 (dk_at dksX3_lacksHours_0 3 rfl rfl)
theorem dX3_lacksHours_4 : decode cX3_lacksHours 4 = .ok (.invokevirtual 161, 3) := dk_182 0 161 (dk_at dksX3_lacksHours_0 4 rfl rfl)
theorem dX3_lacksHours_7 : decode cX3_lacksHours 7 = .ok (.iload_n 2, 1) := dk_28 (dk_at dksX3_lacksHours_0 7 rfl rfl)
theorem dX3_lacksHours_8 : decode cX3_lacksHours 8 = .ok (.if_icmp .ge 7, 3) := dk_162 0 7 (dk_at dksX3_lacksHours_0 8 rfl rfl)
theorem dX3_lacksHours_11 : decode cX3_lacksHours 11 = .ok (.iconst 1, 1) := dk_4 (dk_at dksX3_lacksHours_0 11 rfl rfl)
theorem dX3_lacksHours_12 : decode cX3_lacksHours 12 = .ok (.goto 4, 3) := dk_167 0 4 (dk_at dksX3_lacksHours_0 12 rfl rfl)
theorem dX3_lacksHours_15 : decode cX3_lacksHours 15 = .ok (.iconst 0, 1) := dk_3 (dk_at dksX3_lacksHours_0 15 rfl rfl)
theorem dX3_lacksHours_16 : decode cX3_lacksHours 16 = .ok (.bipush 6, 2) := dk_16 6 (dk_at dksX3_lacksHours_0 16 rfl rfl)
theorem dX3_lacksHours_18 : decode cX3_lacksHours 18 = .ok (.iload_n 2, 1) := dk_28 (dk_at dksX3_lacksHours_0 18 rfl rfl)
theorem dX3_lacksHours_19 : decode cX3_lacksHours 19 = .ok (.aload_n 0, 1) := dk_42 (dk_at dksX3_lacksHours_0 19 rfl rfl)
theorem dX3_lacksHours_20 : decode cX3_lacksHours 20 = .ok (.iload_n 1, 1) := dk_27 (dk_at dksX3_lacksHours_0 20 rfl rfl)
theorem dX3_lacksHours_21 : decode cX3_lacksHours 21 = .ok (.iconst 1, 1) := dk_4 (dk_at dksX3_lacksHours_0 21 rfl rfl)
theorem dX3_lacksHours_22 : decode cX3_lacksHours 22 = .ok (.invokevirtual 161, 3) := dk_182 0 161 (dk_at dksX3_lacksHours_1 0 rfl rfl)
theorem dX3_lacksHours_25 : decode cX3_lacksHours 25 = .ok (.isub, 1) := dk_100 (dk_at dksX3_lacksHours_1 3 rfl rfl)
theorem dX3_lacksHours_26 : decode cX3_lacksHours 26 = .ok (.invokevirtual 108, 3) := dk_182 0 108 (dk_at dksX3_lacksHours_1 4 rfl rfl)
theorem dX3_lacksHours_29 : decode cX3_lacksHours 29 = .ok (.ireturn, 1) := dk_172 (dk_at dksX3_lacksHours_1 7 rfl rfl)
abbrev cX3_addKeeper : ByteArray := prog_14_method_44_code
def yX3_addKeeper : MethodName := ⟨RX3, "addKeeper", "(III)V"⟩
def dkwX3_addKeeper_0 : List UInt8 := [42, 180, 0, 9, 16, 106, 7, 27, 104, 96, 28, 96, 92, 46, 29, 96, 79, 177]
abbrev dktX3_addKeeper_0 : List UInt8 := dkwX3_addKeeper_0 ++ []
theorem dksX3_addKeeper_0 : cX3_addKeeper.data.toList.drop 0 = dktX3_addKeeper_0 := by decide +kernel
theorem dX3_addKeeper_0 : decode cX3_addKeeper 0 = .ok (.aload_n 0, 1) := dk_42 (dk_at dksX3_addKeeper_0 0 rfl rfl)
theorem dX3_addKeeper_1 : decode cX3_addKeeper 1 = .ok (.getfield 9, 3) := dk_180 0 9 (dk_at dksX3_addKeeper_0 1 rfl rfl)
theorem dX3_addKeeper_4 : decode cX3_addKeeper 4 = .ok (.bipush 106, 2) := dk_16 106 (dk_at dksX3_addKeeper_0 4 rfl rfl)
theorem dX3_addKeeper_6 : decode cX3_addKeeper 6 = .ok (.iconst 4, 1) := dk_7 (dk_at dksX3_addKeeper_0 6 rfl rfl)
theorem dX3_addKeeper_7 : decode cX3_addKeeper 7 = .ok (.iload_n 1, 1) := dk_27 (dk_at dksX3_addKeeper_0 7 rfl rfl)
theorem dX3_addKeeper_8 : decode cX3_addKeeper 8 = .ok (.imul, 1) := dk_104 (dk_at dksX3_addKeeper_0 8 rfl rfl)
theorem dX3_addKeeper_9 : decode cX3_addKeeper 9 = .ok (.iadd, 1) := dk_96 (dk_at dksX3_addKeeper_0 9 rfl rfl)
theorem dX3_addKeeper_10 : decode cX3_addKeeper 10 = .ok (.iload_n 2, 1) := dk_28 (dk_at dksX3_addKeeper_0 10 rfl rfl)
theorem dX3_addKeeper_11 : decode cX3_addKeeper 11 = .ok (.iadd, 1) := dk_96 (dk_at dksX3_addKeeper_0 11 rfl rfl)
theorem dX3_addKeeper_12 : decode cX3_addKeeper 12 = .ok (.dup2, 1) := dk_92 (dk_at dksX3_addKeeper_0 12 rfl rfl)
theorem dX3_addKeeper_13 : decode cX3_addKeeper 13 = .ok (.iaload, 1) := dk_46 (dk_at dksX3_addKeeper_0 13 rfl rfl)
theorem dX3_addKeeper_14 : decode cX3_addKeeper 14 = .ok (.iload_n 3, 1) := dk_29 (dk_at dksX3_addKeeper_0 14 rfl rfl)
theorem dX3_addKeeper_15 : decode cX3_addKeeper 15 = .ok (.iadd, 1) := dk_96 (dk_at dksX3_addKeeper_0 15 rfl rfl)
theorem dX3_addKeeper_16 : decode cX3_addKeeper 16 = .ok (.iastore, 1) := dk_79 (dk_at dksX3_addKeeper_0 16 rfl rfl)
theorem dX3_addKeeper_17 : decode cX3_addKeeper 17 = .ok (.return_, 1) := dk_177 (dk_at dksX3_addKeeper_0 17 rfl rfl)
abbrev cX3_shear : ByteArray := prog_14_method_51_code
def yX3_shear : MethodName := ⟨RX3, "shear", "(III)I"⟩
def dkwX3_shear_5 : List UInt8 := [21, 4, 172]
abbrev dktX3_shear_5 : List UInt8 := dkwX3_shear_5 ++ []
def dkwX3_shear_4 : List UInt8 := [108, 116, 182, 0, 170, 42, 27, 6, 21, 4, 182, 0, 170, 42, 180, 0, 9, 16, 22, 28, 96, 29, 79]
abbrev dktX3_shear_4 : List UInt8 := dkwX3_shear_4 ++ dktX3_shear_5
def dkwX3_shear_3 : List UInt8 := [182, 0, 118, 42, 180, 0, 9, 16, 22, 28, 96, 46, 29, 100, 54, 4, 42, 27, 4, 21, 4, 6, 96, 7]
abbrev dktX3_shear_3 : List UInt8 := dkwX3_shear_3 ++ dktX3_shear_4
def dkwX3_shear_2 : List UInt8 := [182, 0, 94, 154, 0, 18, 42, 6, 42, 27, 28, 29, 182, 0, 173, 182, 0, 94, 153, 0, 5, 3, 172, 42]
abbrev dktX3_shear_2 : List UInt8 := dkwX3_shear_2 ++ dktX3_shear_3
def dkwX3_shear_1 : List UInt8 := [182, 0, 94, 154, 0, 41, 42, 5, 29, 3, 16, 20, 184, 0, 68, 154, 0, 7, 4, 167, 0, 4, 3]
abbrev dktX3_shear_1 : List UInt8 := dkwX3_shear_1 ++ dktX3_shear_2
def dkwX3_shear_0 : List UInt8 := [42, 4, 42, 27, 182, 0, 158, 153, 0, 10, 28, 184, 0, 90, 154, 0, 7, 4, 167, 0, 4, 3]
abbrev dktX3_shear_0 : List UInt8 := dkwX3_shear_0 ++ dktX3_shear_1
theorem dksX3_shear_0 : cX3_shear.data.toList.drop 0 = dktX3_shear_0 := by decide +kernel
theorem dksX3_shear_1 : cX3_shear.data.toList.drop 22 = dktX3_shear_1 := dk_seg dksX3_shear_0 22 rfl rfl
theorem dksX3_shear_2 : cX3_shear.data.toList.drop 45 = dktX3_shear_2 := dk_seg dksX3_shear_1 23 rfl rfl
theorem dksX3_shear_3 : cX3_shear.data.toList.drop 69 = dktX3_shear_3 := dk_seg dksX3_shear_2 24 rfl rfl
theorem dksX3_shear_4 : cX3_shear.data.toList.drop 93 = dktX3_shear_4 := dk_seg dksX3_shear_3 24 rfl rfl
theorem dksX3_shear_5 : cX3_shear.data.toList.drop 116 = dktX3_shear_5 := dk_seg dksX3_shear_4 23 rfl rfl
theorem dX3_shear_0 : decode cX3_shear 0 = .ok (.aload_n 0, 1) := dk_42 (dk_at dksX3_shear_0 0 rfl rfl)
theorem dX3_shear_1 : decode cX3_shear 1 = .ok (.iconst 1, 1) := dk_4 (dk_at dksX3_shear_0 1 rfl rfl)
theorem dX3_shear_2 : decode cX3_shear 2 = .ok (.aload_n 0, 1) := dk_42 (dk_at dksX3_shear_0 2 rfl rfl)
theorem dX3_shear_3 : decode cX3_shear 3 = .ok (.iload_n 1, 1) := dk_27 (dk_at dksX3_shear_0 3 rfl rfl)
theorem dX3_shear_4 : decode cX3_shear 4 = .ok (.invokevirtual 158, 3) := dk_182 0 158 (dk_at dksX3_shear_0 4 rfl rfl)
theorem dX3_shear_7 : decode cX3_shear 7 = .ok (.ifCond .eq 10, 3) := dk_153 0 10 (dk_at dksX3_shear_0 7 rfl rfl)
theorem dX3_shear_10 : decode cX3_shear 10 = .ok (.iload_n 2, 1) := dk_28 (dk_at dksX3_shear_0 10 rfl rfl)
theorem dX3_shear_11 : decode cX3_shear 11 = .ok (.invokestatic 90, 3) := dk_184 0 90 (dk_at dksX3_shear_0 11 rfl rfl)
theorem dX3_shear_14 : decode cX3_shear 14 = .ok (.ifCond .ne 7, 3) := dk_154 0 7 (dk_at dksX3_shear_0 14 rfl rfl)
theorem dX3_shear_17 : decode cX3_shear 17 = .ok (.iconst 1, 1) := dk_4 (dk_at dksX3_shear_0 17 rfl rfl)
theorem dX3_shear_18 : decode cX3_shear 18 = .ok (.goto 4, 3) := dk_167 0 4 (dk_at dksX3_shear_0 18 rfl rfl)
theorem dX3_shear_21 : decode cX3_shear 21 = .ok (.iconst 0, 1) := dk_3 (dk_at dksX3_shear_0 21 rfl rfl)
theorem dX3_shear_22 : decode cX3_shear 22 = .ok (.invokevirtual 94, 3) := dk_182 0 94 (dk_at dksX3_shear_1 0 rfl rfl)
theorem dX3_shear_25 : decode cX3_shear 25 = .ok (.ifCond .ne 41, 3) := dk_154 0 41 (dk_at dksX3_shear_1 3 rfl rfl)
theorem dX3_shear_28 : decode cX3_shear 28 = .ok (.aload_n 0, 1) := dk_42 (dk_at dksX3_shear_1 6 rfl rfl)
theorem dX3_shear_29 : decode cX3_shear 29 = .ok (.iconst 2, 1) := dk_5 (dk_at dksX3_shear_1 7 rfl rfl)
theorem dX3_shear_30 : decode cX3_shear 30 = .ok (.iload_n 3, 1) := dk_29 (dk_at dksX3_shear_1 8 rfl rfl)
theorem dX3_shear_31 : decode cX3_shear 31 = .ok (.iconst 0, 1) := dk_3 (dk_at dksX3_shear_1 9 rfl rfl)
theorem dX3_shear_32 : decode cX3_shear 32 = .ok (.bipush 20, 2) := dk_16 20 (dk_at dksX3_shear_1 10 rfl rfl)
theorem dX3_shear_34 : decode cX3_shear 34 = .ok (.invokestatic 68, 3) := dk_184 0 68 (dk_at dksX3_shear_1 12 rfl rfl)
theorem dX3_shear_37 : decode cX3_shear 37 = .ok (.ifCond .ne 7, 3) := dk_154 0 7 (dk_at dksX3_shear_1 15 rfl rfl)
theorem dX3_shear_40 : decode cX3_shear 40 = .ok (.iconst 1, 1) := dk_4 (dk_at dksX3_shear_1 18 rfl rfl)
theorem dX3_shear_41 : decode cX3_shear 41 = .ok (.goto 4, 3) := dk_167 0 4 (dk_at dksX3_shear_1 19 rfl rfl)
theorem dX3_shear_44 : decode cX3_shear 44 = .ok (.iconst 0, 1) := dk_3 (dk_at dksX3_shear_1 22 rfl rfl)
theorem dX3_shear_45 : decode cX3_shear 45 = .ok (.invokevirtual 94, 3) := dk_182 0 94 (dk_at dksX3_shear_2 0 rfl rfl)
theorem dX3_shear_48 : decode cX3_shear 48 = .ok (.ifCond .ne 18, 3) := dk_154 0 18 (dk_at dksX3_shear_2 3 rfl rfl)
theorem dX3_shear_51 : decode cX3_shear 51 = .ok (.aload_n 0, 1) := dk_42 (dk_at dksX3_shear_2 6 rfl rfl)
theorem dX3_shear_52 : decode cX3_shear 52 = .ok (.iconst 3, 1) := dk_6 (dk_at dksX3_shear_2 7 rfl rfl)
theorem dX3_shear_53 : decode cX3_shear 53 = .ok (.aload_n 0, 1) := dk_42 (dk_at dksX3_shear_2 8 rfl rfl)
theorem dX3_shear_54 : decode cX3_shear 54 = .ok (.iload_n 1, 1) := dk_27 (dk_at dksX3_shear_2 9 rfl rfl)
theorem dX3_shear_55 : decode cX3_shear 55 = .ok (.iload_n 2, 1) := dk_28 (dk_at dksX3_shear_2 10 rfl rfl)
theorem dX3_shear_56 : decode cX3_shear 56 = .ok (.iload_n 3, 1) := dk_29 (dk_at dksX3_shear_2 11 rfl rfl)
theorem dX3_shear_57 : decode cX3_shear 57 = .ok (.invokevirtual 173, 3) := dk_182 0 173 (dk_at dksX3_shear_2 12 rfl rfl)
theorem dX3_shear_60 : decode cX3_shear 60 = .ok (.invokevirtual 94, 3) := dk_182 0 94 (dk_at dksX3_shear_2 15 rfl rfl)
theorem dX3_shear_63 : decode cX3_shear 63 = .ok (.ifCond .eq 5, 3) := dk_153 0 5 (dk_at dksX3_shear_2 18 rfl rfl)
theorem dX3_shear_66 : decode cX3_shear 66 = .ok (.iconst 0, 1) := dk_3 (dk_at dksX3_shear_2 21 rfl rfl)
theorem dX3_shear_67 : decode cX3_shear 67 = .ok (.ireturn, 1) := dk_172 (dk_at dksX3_shear_2 22 rfl rfl)
theorem dX3_shear_68 : decode cX3_shear 68 = .ok (.aload_n 0, 1) := dk_42 (dk_at dksX3_shear_2 23 rfl rfl)
theorem dX3_shear_69 : decode cX3_shear 69 = .ok (.invokevirtual 118, 3) := dk_182 0 118 (dk_at dksX3_shear_3 0 rfl rfl)
theorem dX3_shear_72 : decode cX3_shear 72 = .ok (.aload_n 0, 1) := dk_42 (dk_at dksX3_shear_3 3 rfl rfl)
theorem dX3_shear_73 : decode cX3_shear 73 = .ok (.getfield 9, 3) := dk_180 0 9 (dk_at dksX3_shear_3 4 rfl rfl)
theorem dX3_shear_76 : decode cX3_shear 76 = .ok (.bipush 22, 2) := dk_16 22 (dk_at dksX3_shear_3 7 rfl rfl)
theorem dX3_shear_78 : decode cX3_shear 78 = .ok (.iload_n 2, 1) := dk_28 (dk_at dksX3_shear_3 9 rfl rfl)
theorem dX3_shear_79 : decode cX3_shear 79 = .ok (.iadd, 1) := dk_96 (dk_at dksX3_shear_3 10 rfl rfl)
theorem dX3_shear_80 : decode cX3_shear 80 = .ok (.iaload, 1) := dk_46 (dk_at dksX3_shear_3 11 rfl rfl)
theorem dX3_shear_81 : decode cX3_shear 81 = .ok (.iload_n 3, 1) := dk_29 (dk_at dksX3_shear_3 12 rfl rfl)
theorem dX3_shear_82 : decode cX3_shear 82 = .ok (.isub, 1) := dk_100 (dk_at dksX3_shear_3 13 rfl rfl)
theorem dX3_shear_83 : decode cX3_shear 83 = .ok (.istore 4, 2) := dk_54 4 (dk_at dksX3_shear_3 14 rfl rfl)
theorem dX3_shear_85 : decode cX3_shear 85 = .ok (.aload_n 0, 1) := dk_42 (dk_at dksX3_shear_3 16 rfl rfl)
theorem dX3_shear_86 : decode cX3_shear 86 = .ok (.iload_n 1, 1) := dk_27 (dk_at dksX3_shear_3 17 rfl rfl)
theorem dX3_shear_87 : decode cX3_shear 87 = .ok (.iconst 1, 1) := dk_4 (dk_at dksX3_shear_3 18 rfl rfl)
theorem dX3_shear_88 : decode cX3_shear 88 = .ok (.iload 4, 2) := dk_21 4 (dk_at dksX3_shear_3 19 rfl rfl)
theorem dX3_shear_90 : decode cX3_shear 90 = .ok (.iconst 3, 1) := dk_6 (dk_at dksX3_shear_3 21 rfl rfl)
theorem dX3_shear_91 : decode cX3_shear 91 = .ok (.iadd, 1) := dk_96 (dk_at dksX3_shear_3 22 rfl rfl)
theorem dX3_shear_92 : decode cX3_shear 92 = .ok (.iconst 4, 1) := dk_7 (dk_at dksX3_shear_3 23 rfl rfl)
theorem dX3_shear_93 : decode cX3_shear 93 = .ok (.idiv, 1) := dk_108 (dk_at dksX3_shear_4 0 rfl rfl)
theorem dX3_shear_94 : decode cX3_shear 94 = .ok (.ineg, 1) := dk_116 (dk_at dksX3_shear_4 1 rfl rfl)
theorem dX3_shear_95 : decode cX3_shear 95 = .ok (.invokevirtual 170, 3) := dk_182 0 170 (dk_at dksX3_shear_4 2 rfl rfl)
theorem dX3_shear_98 : decode cX3_shear 98 = .ok (.aload_n 0, 1) := dk_42 (dk_at dksX3_shear_4 5 rfl rfl)
theorem dX3_shear_99 : decode cX3_shear 99 = .ok (.iload_n 1, 1) := dk_27 (dk_at dksX3_shear_4 6 rfl rfl)
theorem dX3_shear_100 : decode cX3_shear 100 = .ok (.iconst 3, 1) := dk_6 (dk_at dksX3_shear_4 7 rfl rfl)
theorem dX3_shear_101 : decode cX3_shear 101 = .ok (.iload 4, 2) := dk_21 4 (dk_at dksX3_shear_4 8 rfl rfl)
theorem dX3_shear_103 : decode cX3_shear 103 = .ok (.invokevirtual 170, 3) := dk_182 0 170 (dk_at dksX3_shear_4 10 rfl rfl)
theorem dX3_shear_106 : decode cX3_shear 106 = .ok (.aload_n 0, 1) := dk_42 (dk_at dksX3_shear_4 13 rfl rfl)
theorem dX3_shear_107 : decode cX3_shear 107 = .ok (.getfield 9, 3) := dk_180 0 9 (dk_at dksX3_shear_4 14 rfl rfl)
theorem dX3_shear_110 : decode cX3_shear 110 = .ok (.bipush 22, 2) := dk_16 22 (dk_at dksX3_shear_4 17 rfl rfl)
theorem dX3_shear_112 : decode cX3_shear 112 = .ok (.iload_n 2, 1) := dk_28 (dk_at dksX3_shear_4 19 rfl rfl)
theorem dX3_shear_113 : decode cX3_shear 113 = .ok (.iadd, 1) := dk_96 (dk_at dksX3_shear_4 20 rfl rfl)
theorem dX3_shear_114 : decode cX3_shear 114 = .ok (.iload_n 3, 1) := dk_29 (dk_at dksX3_shear_4 21 rfl rfl)
theorem dX3_shear_115 : decode cX3_shear 115 = .ok (.iastore, 1) := dk_79 (dk_at dksX3_shear_4 22 rfl rfl)
theorem dX3_shear_116 : decode cX3_shear 116 = .ok (.iload 4, 2) := dk_21 4 (dk_at dksX3_shear_5 0 rfl rfl)
theorem dX3_shear_118 : decode cX3_shear 118 = .ok (.ireturn, 1) := dk_172 (dk_at dksX3_shear_5 2 rfl rfl)
abbrev cX3_isShearRefused : ByteArray := prog_14_method_50_code
def yX3_isShearRefused : MethodName := ⟨RX3, "isShearRefused", "(III)Z"⟩
def dkwX3_isShearRefused_3 : List UInt8 := [108, 182, 0, 167, 172]
abbrev dktX3_isShearRefused_3 : List UInt8 := dkwX3_isShearRefused_3 ++ []
def dkwX3_isShearRefused_2 : List UInt8 := [167, 0, 4, 3, 8, 21, 4, 182, 0, 108, 153, 0, 5, 4, 172, 42, 27, 21, 4, 29, 100, 6, 96, 7]
abbrev dktX3_isShearRefused_2 : List UInt8 := dkwX3_isShearRefused_2 ++ dktX3_isShearRefused_3
def dkwX3_isShearRefused_1 : List UInt8 := [154, 0, 7, 4, 167, 0, 4, 3, 7, 28, 182, 0, 108, 154, 0, 24, 42, 21, 4, 29, 163, 0, 7, 4]
abbrev dktX3_isShearRefused_1 : List UInt8 := dkwX3_isShearRefused_1 ++ dktX3_isShearRefused_2
def dkwX3_isShearRefused_0 : List UInt8 := [42, 180, 0, 9, 16, 22, 28, 96, 46, 54, 4, 42, 28, 42, 27, 3, 182, 0, 161, 184, 0, 79]
abbrev dktX3_isShearRefused_0 : List UInt8 := dkwX3_isShearRefused_0 ++ dktX3_isShearRefused_1
theorem dksX3_isShearRefused_0 : cX3_isShearRefused.data.toList.drop 0 = dktX3_isShearRefused_0 := by decide +kernel
theorem dksX3_isShearRefused_1 : cX3_isShearRefused.data.toList.drop 22 = dktX3_isShearRefused_1 := dk_seg dksX3_isShearRefused_0 22 rfl rfl
theorem dksX3_isShearRefused_2 : cX3_isShearRefused.data.toList.drop 46 = dktX3_isShearRefused_2 := dk_seg dksX3_isShearRefused_1 24 rfl rfl
theorem dksX3_isShearRefused_3 : cX3_isShearRefused.data.toList.drop 70 = dktX3_isShearRefused_3 := dk_seg dksX3_isShearRefused_2 24 rfl rfl
theorem dX3_isShearRefused_0 : decode cX3_isShearRefused 0 = .ok (.aload_n 0, 1) := dk_42 (dk_at dksX3_isShearRefused_0 0 rfl rfl)
theorem dX3_isShearRefused_1 : decode cX3_isShearRefused 1 = .ok (.getfield 9, 3) := dk_180 0 9 (dk_at dksX3_isShearRefused_0 1 rfl rfl)
theorem dX3_isShearRefused_4 : decode cX3_isShearRefused 4 = .ok (.bipush 22, 2) := dk_16 22 (dk_at dksX3_isShearRefused_0 4 rfl rfl)
theorem dX3_isShearRefused_6 : decode cX3_isShearRefused 6 = .ok (.iload_n 2, 1) := dk_28 (dk_at dksX3_isShearRefused_0 6 rfl rfl)
theorem dX3_isShearRefused_7 : decode cX3_isShearRefused 7 = .ok (.iadd, 1) := dk_96 (dk_at dksX3_isShearRefused_0 7 rfl rfl)
theorem dX3_isShearRefused_8 : decode cX3_isShearRefused 8 = .ok (.iaload, 1) := dk_46 (dk_at dksX3_isShearRefused_0 8 rfl rfl)
theorem dX3_isShearRefused_9 : decode cX3_isShearRefused 9 = .ok (.istore 4, 2) := dk_54 4 (dk_at dksX3_isShearRefused_0 9 rfl rfl)
theorem dX3_isShearRefused_11 : decode cX3_isShearRefused 11 = .ok (.aload_n 0, 1) := dk_42 (dk_at dksX3_isShearRefused_0 11 rfl rfl)
theorem dX3_isShearRefused_12 : decode cX3_isShearRefused 12 = .ok (.iload_n 2, 1) := dk_28 (dk_at dksX3_isShearRefused_0 12 rfl rfl)
theorem dX3_isShearRefused_13 : decode cX3_isShearRefused 13 = .ok (.aload_n 0, 1) := dk_42 (dk_at dksX3_isShearRefused_0 13 rfl rfl)
theorem dX3_isShearRefused_14 : decode cX3_isShearRefused 14 = .ok (.iload_n 1, 1) := dk_27 (dk_at dksX3_isShearRefused_0 14 rfl rfl)
theorem dX3_isShearRefused_15 : decode cX3_isShearRefused 15 = .ok (.iconst 0, 1) := dk_3 (dk_at dksX3_isShearRefused_0 15 rfl rfl)
theorem dX3_isShearRefused_16 : decode cX3_isShearRefused 16 = .ok (.invokevirtual 161, 3) := dk_182 0 161 (dk_at dksX3_isShearRefused_0 16 rfl rfl)
theorem dX3_isShearRefused_19 : decode cX3_isShearRefused 19 = .ok (.invokestatic 79, 3) := dk_184 0 79 (dk_at dksX3_isShearRefused_0 19 rfl rfl)
theorem dX3_isShearRefused_22 : decode cX3_isShearRefused 22 = .ok (.ifCond .ne 7, 3) := dk_154 0 7 (dk_at dksX3_isShearRefused_1 0 rfl rfl)
theorem dX3_isShearRefused_25 : decode cX3_isShearRefused 25 = .ok (.iconst 1, 1) := dk_4 (dk_at dksX3_isShearRefused_1 3 rfl rfl)
theorem dX3_isShearRefused_26 : decode cX3_isShearRefused 26 = .ok (.goto 4, 3) := dk_167 0 4 (dk_at dksX3_isShearRefused_1 4 rfl rfl)
theorem dX3_isShearRefused_29 : decode cX3_isShearRefused 29 = .ok (.iconst 0, 1) := dk_3 (dk_at dksX3_isShearRefused_1 7 rfl rfl)
theorem dX3_isShearRefused_30 : decode cX3_isShearRefused 30 = .ok (.iconst 4, 1) := dk_7 (dk_at dksX3_isShearRefused_1 8 rfl rfl)
theorem dX3_isShearRefused_31 : decode cX3_isShearRefused 31 = .ok (.iload_n 2, 1) := dk_28 (dk_at dksX3_isShearRefused_1 9 rfl rfl)
theorem dX3_isShearRefused_32 : decode cX3_isShearRefused 32 = .ok (.invokevirtual 108, 3) := dk_182 0 108 (dk_at dksX3_isShearRefused_1 10 rfl rfl)
theorem dX3_isShearRefused_35 : decode cX3_isShearRefused 35 = .ok (.ifCond .ne 24, 3) := dk_154 0 24 (dk_at dksX3_isShearRefused_1 13 rfl rfl)
theorem dX3_isShearRefused_38 : decode cX3_isShearRefused 38 = .ok (.aload_n 0, 1) := dk_42 (dk_at dksX3_isShearRefused_1 16 rfl rfl)
theorem dX3_isShearRefused_39 : decode cX3_isShearRefused 39 = .ok (.iload 4, 2) := dk_21 4 (dk_at dksX3_isShearRefused_1 17 rfl rfl)
theorem dX3_isShearRefused_41 : decode cX3_isShearRefused 41 = .ok (.iload_n 3, 1) := dk_29 (dk_at dksX3_isShearRefused_1 19 rfl rfl)
theorem dX3_isShearRefused_42 : decode cX3_isShearRefused 42 = .ok (.if_icmp .gt 7, 3) := dk_163 0 7 (dk_at dksX3_isShearRefused_1 20 rfl rfl)
theorem dX3_isShearRefused_45 : decode cX3_isShearRefused 45 = .ok (.iconst 1, 1) := dk_4 (dk_at dksX3_isShearRefused_1 23 rfl rfl)
theorem dX3_isShearRefused_46 : decode cX3_isShearRefused 46 = .ok (.goto 4, 3) := dk_167 0 4 (dk_at dksX3_isShearRefused_2 0 rfl rfl)
theorem dX3_isShearRefused_49 : decode cX3_isShearRefused 49 = .ok (.iconst 0, 1) := dk_3 (dk_at dksX3_isShearRefused_2 3 rfl rfl)
theorem dX3_isShearRefused_50 : decode cX3_isShearRefused 50 = .ok (.iconst 5, 1) := dk_8 (dk_at dksX3_isShearRefused_2 4 rfl rfl)
theorem dX3_isShearRefused_51 : decode cX3_isShearRefused 51 = .ok (.iload 4, 2) := dk_21 4 (dk_at dksX3_isShearRefused_2 5 rfl rfl)
theorem dX3_isShearRefused_53 : decode cX3_isShearRefused 53 = .ok (.invokevirtual 108, 3) := dk_182 0 108 (dk_at dksX3_isShearRefused_2 7 rfl rfl)
theorem dX3_isShearRefused_56 : decode cX3_isShearRefused 56 = .ok (.ifCond .eq 5, 3) := dk_153 0 5 (dk_at dksX3_isShearRefused_2 10 rfl rfl)
theorem dX3_isShearRefused_59 : decode cX3_isShearRefused 59 = .ok (.iconst 1, 1) := dk_4 (dk_at dksX3_isShearRefused_2 13 rfl rfl)
theorem dX3_isShearRefused_60 : decode cX3_isShearRefused 60 = .ok (.ireturn, 1) := dk_172 (dk_at dksX3_isShearRefused_2 14 rfl rfl)
theorem dX3_isShearRefused_61 : decode cX3_isShearRefused 61 = .ok (.aload_n 0, 1) := dk_42 (dk_at dksX3_isShearRefused_2 15 rfl rfl)
theorem dX3_isShearRefused_62 : decode cX3_isShearRefused 62 = .ok (.iload_n 1, 1) := dk_27 (dk_at dksX3_isShearRefused_2 16 rfl rfl)
theorem dX3_isShearRefused_63 : decode cX3_isShearRefused 63 = .ok (.iload 4, 2) := dk_21 4 (dk_at dksX3_isShearRefused_2 17 rfl rfl)
theorem dX3_isShearRefused_65 : decode cX3_isShearRefused 65 = .ok (.iload_n 3, 1) := dk_29 (dk_at dksX3_isShearRefused_2 19 rfl rfl)
theorem dX3_isShearRefused_66 : decode cX3_isShearRefused 66 = .ok (.isub, 1) := dk_100 (dk_at dksX3_isShearRefused_2 20 rfl rfl)
theorem dX3_isShearRefused_67 : decode cX3_isShearRefused 67 = .ok (.iconst 3, 1) := dk_6 (dk_at dksX3_isShearRefused_2 21 rfl rfl)
theorem dX3_isShearRefused_68 : decode cX3_isShearRefused 68 = .ok (.iadd, 1) := dk_96 (dk_at dksX3_isShearRefused_2 22 rfl rfl)
theorem dX3_isShearRefused_69 : decode cX3_isShearRefused 69 = .ok (.iconst 4, 1) := dk_7 (dk_at dksX3_isShearRefused_2 23 rfl rfl)
theorem dX3_isShearRefused_70 : decode cX3_isShearRefused 70 = .ok (.idiv, 1) := dk_108 (dk_at dksX3_isShearRefused_3 0 rfl rfl)
theorem dX3_isShearRefused_71 : decode cX3_isShearRefused 71 = .ok (.invokevirtual 167, 3) := dk_182 0 167 (dk_at dksX3_isShearRefused_3 1 rfl rfl)
theorem dX3_isShearRefused_74 : decode cX3_isShearRefused 74 = .ok (.ireturn, 1) := dk_172 (dk_at dksX3_isShearRefused_3 4 rfl rfl)
abbrev cX3_find : ByteArray := prog_14_method_53_code
def yX3_find : MethodName := ⟨RX3, "find", "(I)I"⟩
def dkwX3_find_4 : List UInt8 := [2, 182, 0, 170, 42, 27, 5, 29, 182, 0, 170, 29, 172]
abbrev dktX3_find_4 : List UInt8 := dkwX3_find_4 ++ []
def dkwX3_find_3 : List UInt8 := [62, 42, 180, 0, 9, 28, 92, 46, 29, 100, 79, 42, 180, 0, 9, 6, 92, 46, 29, 96, 79, 42, 27, 4]
abbrev dktX3_find_3 : List UInt8 := dkwX3_find_3 ++ dktX3_find_4
def dkwX3_find_2 : List UInt8 := [96, 61, 42, 180, 0, 9, 28, 46, 16, 15, 162, 0, 12, 42, 180, 0, 9, 28, 46, 167, 0, 5, 16, 15]
abbrev dktX3_find_2 : List UInt8 := dkwX3_find_2 ++ dktX3_find_3
def dkwX3_find_1 : List UInt8 := [27, 182, 0, 176, 182, 0, 94, 153, 0, 5, 3, 172, 42, 182, 0, 118, 16, 13, 42, 27, 3, 182, 0, 161]
abbrev dktX3_find_1 : List UInt8 := dkwX3_find_1 ++ dktX3_find_2
def dkwX3_find_0 : List UInt8 := [42, 4, 42, 27, 182, 0, 158, 154, 0, 7, 4, 167, 0, 4, 3, 182, 0, 94, 154, 0, 16, 42, 5, 42]
abbrev dktX3_find_0 : List UInt8 := dkwX3_find_0 ++ dktX3_find_1
theorem dksX3_find_0 : cX3_find.data.toList.drop 0 = dktX3_find_0 := by decide +kernel
theorem dksX3_find_1 : cX3_find.data.toList.drop 24 = dktX3_find_1 := dk_seg dksX3_find_0 24 rfl rfl
theorem dksX3_find_2 : cX3_find.data.toList.drop 48 = dktX3_find_2 := dk_seg dksX3_find_1 24 rfl rfl
theorem dksX3_find_3 : cX3_find.data.toList.drop 72 = dktX3_find_3 := dk_seg dksX3_find_2 24 rfl rfl
theorem dksX3_find_4 : cX3_find.data.toList.drop 96 = dktX3_find_4 := dk_seg dksX3_find_3 24 rfl rfl
theorem dX3_find_0 : decode cX3_find 0 = .ok (.aload_n 0, 1) := dk_42 (dk_at dksX3_find_0 0 rfl rfl)
theorem dX3_find_1 : decode cX3_find 1 = .ok (.iconst 1, 1) := dk_4 (dk_at dksX3_find_0 1 rfl rfl)
theorem dX3_find_2 : decode cX3_find 2 = .ok (.aload_n 0, 1) := dk_42 (dk_at dksX3_find_0 2 rfl rfl)
theorem dX3_find_3 : decode cX3_find 3 = .ok (.iload_n 1, 1) := dk_27 (dk_at dksX3_find_0 3 rfl rfl)
theorem dX3_find_4 : decode cX3_find 4 = .ok (.invokevirtual 158, 3) := dk_182 0 158 (dk_at dksX3_find_0 4 rfl rfl)
theorem dX3_find_7 : decode cX3_find 7 = .ok (.ifCond .ne 7, 3) := dk_154 0 7 (dk_at dksX3_find_0 7 rfl rfl)
theorem dX3_find_10 : decode cX3_find 10 = .ok (.iconst 1, 1) := dk_4 (dk_at dksX3_find_0 10 rfl rfl)
theorem dX3_find_11 : decode cX3_find 11 = .ok (.goto 4, 3) := dk_167 0 4 (dk_at dksX3_find_0 11 rfl rfl)
theorem dX3_find_14 : decode cX3_find 14 = .ok (.iconst 0, 1) := dk_3 (dk_at dksX3_find_0 14 rfl rfl)
theorem dX3_find_15 : decode cX3_find 15 = .ok (.invokevirtual 94, 3) := dk_182 0 94 (dk_at dksX3_find_0 15 rfl rfl)
theorem dX3_find_18 : decode cX3_find 18 = .ok (.ifCond .ne 16, 3) := dk_154 0 16 (dk_at dksX3_find_0 18 rfl rfl)
theorem dX3_find_21 : decode cX3_find 21 = .ok (.aload_n 0, 1) := dk_42 (dk_at dksX3_find_0 21 rfl rfl)
theorem dX3_find_22 : decode cX3_find 22 = .ok (.iconst 2, 1) := dk_5 (dk_at dksX3_find_0 22 rfl rfl)
theorem dX3_find_23 : decode cX3_find 23 = .ok (.aload_n 0, 1) := dk_42 (dk_at dksX3_find_0 23 rfl rfl)
theorem dX3_find_24 : decode cX3_find 24 = .ok (.iload_n 1, 1) := dk_27 (dk_at dksX3_find_1 0 rfl rfl)
theorem dX3_find_25 : decode cX3_find 25 = .ok (.invokevirtual 176, 3) := dk_182 0 176 (dk_at dksX3_find_1 1 rfl rfl)
theorem dX3_find_28 : decode cX3_find 28 = .ok (.invokevirtual 94, 3) := dk_182 0 94 (dk_at dksX3_find_1 4 rfl rfl)
theorem dX3_find_31 : decode cX3_find 31 = .ok (.ifCond .eq 5, 3) := dk_153 0 5 (dk_at dksX3_find_1 7 rfl rfl)
theorem dX3_find_34 : decode cX3_find 34 = .ok (.iconst 0, 1) := dk_3 (dk_at dksX3_find_1 10 rfl rfl)
theorem dX3_find_35 : decode cX3_find 35 = .ok (.ireturn, 1) := dk_172 (dk_at dksX3_find_1 11 rfl rfl)
theorem dX3_find_36 : decode cX3_find 36 = .ok (.aload_n 0, 1) := dk_42 (dk_at dksX3_find_1 12 rfl rfl)
theorem dX3_find_37 : decode cX3_find 37 = .ok (.invokevirtual 118, 3) := dk_182 0 118 (dk_at dksX3_find_1 13 rfl rfl)
theorem dX3_find_40 : decode cX3_find 40 = .ok (.bipush 13, 2) := dk_16 13 (dk_at dksX3_find_1 16 rfl rfl)
theorem dX3_find_42 : decode cX3_find 42 = .ok (.aload_n 0, 1) := dk_42 (dk_at dksX3_find_1 18 rfl rfl)
theorem dX3_find_43 : decode cX3_find 43 = .ok (.iload_n 1, 1) := dk_27 (dk_at dksX3_find_1 19 rfl rfl)
theorem dX3_find_44 : decode cX3_find 44 = .ok (.iconst 0, 1) := dk_3 (dk_at dksX3_find_1 20 rfl rfl)
theorem dX3_find_45 : decode cX3_find 45 = .ok (.invokevirtual 161, 3) := dk_182 0 161 (dk_at dksX3_find_1 21 rfl rfl)
theorem dX3_find_48 : decode cX3_find 48 = .ok (.iadd, 1) := dk_96 (dk_at dksX3_find_2 0 rfl rfl)
theorem dX3_find_49 : decode cX3_find 49 = .ok (.istore_n 2, 1) := dk_61 (dk_at dksX3_find_2 1 rfl rfl)
theorem dX3_find_50 : decode cX3_find 50 = .ok (.aload_n 0, 1) := dk_42 (dk_at dksX3_find_2 2 rfl rfl)
theorem dX3_find_51 : decode cX3_find 51 = .ok (.getfield 9, 3) := dk_180 0 9 (dk_at dksX3_find_2 3 rfl rfl)
theorem dX3_find_54 : decode cX3_find 54 = .ok (.iload_n 2, 1) := dk_28 (dk_at dksX3_find_2 6 rfl rfl)
theorem dX3_find_55 : decode cX3_find 55 = .ok (.iaload, 1) := dk_46 (dk_at dksX3_find_2 7 rfl rfl)
theorem dX3_find_56 : decode cX3_find 56 = .ok (.bipush 15, 2) := dk_16 15 (dk_at dksX3_find_2 8 rfl rfl)
theorem dX3_find_58 : decode cX3_find 58 = .ok (.if_icmp .ge 12, 3) := dk_162 0 12 (dk_at dksX3_find_2 10 rfl rfl)
theorem dX3_find_61 : decode cX3_find 61 = .ok (.aload_n 0, 1) := dk_42 (dk_at dksX3_find_2 13 rfl rfl)
theorem dX3_find_62 : decode cX3_find 62 = .ok (.getfield 9, 3) := dk_180 0 9 (dk_at dksX3_find_2 14 rfl rfl)
theorem dX3_find_65 : decode cX3_find 65 = .ok (.iload_n 2, 1) := dk_28 (dk_at dksX3_find_2 17 rfl rfl)
theorem dX3_find_66 : decode cX3_find 66 = .ok (.iaload, 1) := dk_46 (dk_at dksX3_find_2 18 rfl rfl)
theorem dX3_find_67 : decode cX3_find 67 = .ok (.goto 5, 3) := dk_167 0 5 (dk_at dksX3_find_2 19 rfl rfl)
theorem dX3_find_70 : decode cX3_find 70 = .ok (.bipush 15, 2) := dk_16 15 (dk_at dksX3_find_2 22 rfl rfl)
theorem dX3_find_72 : decode cX3_find 72 = .ok (.istore_n 3, 1) := dk_62 (dk_at dksX3_find_3 0 rfl rfl)
theorem dX3_find_73 : decode cX3_find 73 = .ok (.aload_n 0, 1) := dk_42 (dk_at dksX3_find_3 1 rfl rfl)
theorem dX3_find_74 : decode cX3_find 74 = .ok (.getfield 9, 3) := dk_180 0 9 (dk_at dksX3_find_3 2 rfl rfl)
theorem dX3_find_77 : decode cX3_find 77 = .ok (.iload_n 2, 1) := dk_28 (dk_at dksX3_find_3 5 rfl rfl)
theorem dX3_find_78 : decode cX3_find 78 = .ok (.dup2, 1) := dk_92 (dk_at dksX3_find_3 6 rfl rfl)
theorem dX3_find_79 : decode cX3_find 79 = .ok (.iaload, 1) := dk_46 (dk_at dksX3_find_3 7 rfl rfl)
theorem dX3_find_80 : decode cX3_find 80 = .ok (.iload_n 3, 1) := dk_29 (dk_at dksX3_find_3 8 rfl rfl)
theorem dX3_find_81 : decode cX3_find 81 = .ok (.isub, 1) := dk_100 (dk_at dksX3_find_3 9 rfl rfl)
theorem dX3_find_82 : decode cX3_find 82 = .ok (.iastore, 1) := dk_79 (dk_at dksX3_find_3 10 rfl rfl)
theorem dX3_find_83 : decode cX3_find 83 = .ok (.aload_n 0, 1) := dk_42 (dk_at dksX3_find_3 11 rfl rfl)
theorem dX3_find_84 : decode cX3_find 84 = .ok (.getfield 9, 3) := dk_180 0 9 (dk_at dksX3_find_3 12 rfl rfl)
theorem dX3_find_87 : decode cX3_find 87 = .ok (.iconst 3, 1) := dk_6 (dk_at dksX3_find_3 15 rfl rfl)
theorem dX3_find_88 : decode cX3_find 88 = .ok (.dup2, 1) := dk_92 (dk_at dksX3_find_3 16 rfl rfl)
theorem dX3_find_89 : decode cX3_find 89 = .ok (.iaload, 1) := dk_46 (dk_at dksX3_find_3 17 rfl rfl)
theorem dX3_find_90 : decode cX3_find 90 = .ok (.iload_n 3, 1) := dk_29 (dk_at dksX3_find_3 18 rfl rfl)
theorem dX3_find_91 : decode cX3_find 91 = .ok (.iadd, 1) := dk_96 (dk_at dksX3_find_3 19 rfl rfl)
theorem dX3_find_92 : decode cX3_find 92 = .ok (.iastore, 1) := dk_79 (dk_at dksX3_find_3 20 rfl rfl)
theorem dX3_find_93 : decode cX3_find 93 = .ok (.aload_n 0, 1) := dk_42 (dk_at dksX3_find_3 21 rfl rfl)
theorem dX3_find_94 : decode cX3_find 94 = .ok (.iload_n 1, 1) := dk_27 (dk_at dksX3_find_3 22 rfl rfl)
theorem dX3_find_95 : decode cX3_find 95 = .ok (.iconst 1, 1) := dk_4 (dk_at dksX3_find_3 23 rfl rfl)
theorem dX3_find_96 : decode cX3_find 96 = .ok (.iconst (-1), 1) := dk_2 (dk_at dksX3_find_4 0 rfl rfl)
theorem dX3_find_97 : decode cX3_find 97 = .ok (.invokevirtual 170, 3) := dk_182 0 170 (dk_at dksX3_find_4 1 rfl rfl)
theorem dX3_find_100 : decode cX3_find 100 = .ok (.aload_n 0, 1) := dk_42 (dk_at dksX3_find_4 4 rfl rfl)
theorem dX3_find_101 : decode cX3_find 101 = .ok (.iload_n 1, 1) := dk_27 (dk_at dksX3_find_4 5 rfl rfl)
theorem dX3_find_102 : decode cX3_find 102 = .ok (.iconst 2, 1) := dk_5 (dk_at dksX3_find_4 6 rfl rfl)
theorem dX3_find_103 : decode cX3_find 103 = .ok (.iload_n 3, 1) := dk_29 (dk_at dksX3_find_4 7 rfl rfl)
theorem dX3_find_104 : decode cX3_find 104 = .ok (.invokevirtual 170, 3) := dk_182 0 170 (dk_at dksX3_find_4 8 rfl rfl)
theorem dX3_find_107 : decode cX3_find 107 = .ok (.iload_n 3, 1) := dk_29 (dk_at dksX3_find_4 11 rfl rfl)
theorem dX3_find_108 : decode cX3_find 108 = .ok (.ireturn, 1) := dk_172 (dk_at dksX3_find_4 12 rfl rfl)
abbrev cX3_isFindRefused : ByteArray := prog_14_method_52_code
def yX3_isFindRefused : MethodName := ⟨RX3, "isFindRefused", "(I)Z"⟩
def dkwX3_isFindRefused_2 : List UInt8 := [172]
abbrev dktX3_isFindRefused_2 : List UInt8 := dkwX3_isFindRefused_2 ++ []
def dkwX3_isFindRefused_1 : List UInt8 := [3, 16, 7, 28, 182, 0, 108, 154, 0, 12, 42, 27, 4, 182, 0, 167, 153, 0, 7, 4, 167, 0, 4, 3]
abbrev dktX3_isFindRefused_1 : List UInt8 := dkwX3_isFindRefused_1 ++ dktX3_isFindRefused_2
def dkwX3_isFindRefused_0 : List UInt8 := [42, 27, 3, 182, 0, 161, 61, 42, 42, 180, 0, 9, 16, 13, 28, 96, 46, 154, 0, 7, 4, 167, 0, 4]
abbrev dktX3_isFindRefused_0 : List UInt8 := dkwX3_isFindRefused_0 ++ dktX3_isFindRefused_1
theorem dksX3_isFindRefused_0 : cX3_isFindRefused.data.toList.drop 0 = dktX3_isFindRefused_0 := by decide +kernel
theorem dksX3_isFindRefused_1 : cX3_isFindRefused.data.toList.drop 24 = dktX3_isFindRefused_1 := dk_seg dksX3_isFindRefused_0 24 rfl rfl
theorem dksX3_isFindRefused_2 : cX3_isFindRefused.data.toList.drop 48 = dktX3_isFindRefused_2 := dk_seg dksX3_isFindRefused_1 24 rfl rfl
theorem dX3_isFindRefused_0 : decode cX3_isFindRefused 0 = .ok (.aload_n 0, 1) := dk_42 (dk_at dksX3_isFindRefused_0 0 rfl rfl)
theorem dX3_isFindRefused_1 : decode cX3_isFindRefused 1 = .ok (.iload_n 1, 1) := dk_27 (dk_at dksX3_isFindRefused_0 1 rfl rfl)
theorem dX3_isFindRefused_2 : decode cX3_isFindRefused 2 = .ok (.iconst 0, 1) := dk_3 (dk_at dksX3_isFindRefused_0 2 rfl rfl)
theorem dX3_isFindRefused_3 : decode cX3_isFindRefused 3 = .ok (.invokevirtual 161, 3) := dk_182 0 161 (dk_at dksX3_isFindRefused_0 3 rfl rfl)
theorem dX3_isFindRefused_6 : decode cX3_isFindRefused 6 = .ok (.istore_n 2, 1) := dk_61 (dk_at dksX3_isFindRefused_0 6 rfl rfl)
theorem dX3_isFindRefused_7 : decode cX3_isFindRefused 7 = .ok (.aload_n 0, 1) := dk_42 (dk_at dksX3_isFindRefused_0 7 rfl rfl)
theorem dX3_isFindRefused_8 : decode cX3_isFindRefused 8 = .ok (.aload_n 0, 1) := dk_42 (dk_at dksX3_isFindRefused_0 8 rfl rfl)
theorem dX3_isFindRefused_9 : decode cX3_isFindRefused 9 = .ok (.getfield 9, 3) := dk_180 0 9 (dk_at dksX3_isFindRefused_0 9 rfl rfl)
theorem dX3_isFindRefused_12 : decode cX3_isFindRefused 12 = .ok (.bipush 13, 2) := dk_16 13 (dk_at dksX3_isFindRefused_0 12 rfl rfl)
theorem dX3_isFindRefused_14 : decode cX3_isFindRefused 14 = .ok (.iload_n 2, 1) := dk_28 (dk_at dksX3_isFindRefused_0 14 rfl rfl)
theorem dX3_isFindRefused_15 : decode cX3_isFindRefused 15 = .ok (.iadd, 1) := dk_96 (dk_at dksX3_isFindRefused_0 15 rfl rfl)
theorem dX3_isFindRefused_16 : decode cX3_isFindRefused 16 = .ok (.iaload, 1) := dk_46 (dk_at dksX3_isFindRefused_0 16 rfl rfl)
theorem dX3_isFindRefused_17 : decode cX3_isFindRefused 17 = .ok (.ifCond .ne 7, 3) := dk_154 0 7 (dk_at dksX3_isFindRefused_0 17 rfl rfl)
theorem dX3_isFindRefused_20 : decode cX3_isFindRefused 20 = .ok (.iconst 1, 1) := dk_4 (dk_at dksX3_isFindRefused_0 20 rfl rfl)
theorem dX3_isFindRefused_21 : decode cX3_isFindRefused 21 = .ok (.goto 4, 3) := dk_167 0 4 (dk_at dksX3_isFindRefused_0 21 rfl rfl)
theorem dX3_isFindRefused_24 : decode cX3_isFindRefused 24 = .ok (.iconst 0, 1) := dk_3 (dk_at dksX3_isFindRefused_1 0 rfl rfl)
theorem dX3_isFindRefused_25 : decode cX3_isFindRefused 25 = .ok (.bipush 7, 2) := dk_16 7 (dk_at dksX3_isFindRefused_1 1 rfl rfl)
theorem dX3_isFindRefused_27 : decode cX3_isFindRefused 27 = .ok (.iload_n 2, 1) := dk_28 (dk_at dksX3_isFindRefused_1 3 rfl rfl)
theorem dX3_isFindRefused_28 : decode cX3_isFindRefused 28 = .ok (.invokevirtual 108, 3) := dk_182 0 108 (dk_at dksX3_isFindRefused_1 4 rfl rfl)
theorem dX3_isFindRefused_31 : decode cX3_isFindRefused 31 = .ok (.ifCond .ne 12, 3) := dk_154 0 12 (dk_at dksX3_isFindRefused_1 7 rfl rfl)
theorem dX3_isFindRefused_34 : decode cX3_isFindRefused 34 = .ok (.aload_n 0, 1) := dk_42 (dk_at dksX3_isFindRefused_1 10 rfl rfl)
theorem dX3_isFindRefused_35 : decode cX3_isFindRefused 35 = .ok (.iload_n 1, 1) := dk_27 (dk_at dksX3_isFindRefused_1 11 rfl rfl)
theorem dX3_isFindRefused_36 : decode cX3_isFindRefused 36 = .ok (.iconst 1, 1) := dk_4 (dk_at dksX3_isFindRefused_1 12 rfl rfl)
theorem dX3_isFindRefused_37 : decode cX3_isFindRefused 37 = .ok (.invokevirtual 167, 3) := dk_182 0 167 (dk_at dksX3_isFindRefused_1 13 rfl rfl)
theorem dX3_isFindRefused_40 : decode cX3_isFindRefused 40 = .ok (.ifCond .eq 7, 3) := dk_153 0 7 (dk_at dksX3_isFindRefused_1 16 rfl rfl)
theorem dX3_isFindRefused_43 : decode cX3_isFindRefused 43 = .ok (.iconst 1, 1) := dk_4 (dk_at dksX3_isFindRefused_1 19 rfl rfl)
theorem dX3_isFindRefused_44 : decode cX3_isFindRefused 44 = .ok (.goto 4, 3) := dk_167 0 4 (dk_at dksX3_isFindRefused_1 20 rfl rfl)
theorem dX3_isFindRefused_47 : decode cX3_isFindRefused 47 = .ok (.iconst 0, 1) := dk_3 (dk_at dksX3_isFindRefused_1 23 rfl rfl)
theorem dX3_isFindRefused_48 : decode cX3_isFindRefused 48 = .ok (.ireturn, 1) := dk_172 (dk_at dksX3_isFindRefused_2 0 rfl rfl)
abbrev cX3_sell : ByteArray := prog_14_method_54_code
def yX3_sell : MethodName := ⟨RX3, "sell", "(I)I"⟩
def dkwX3_sell_4 : List UInt8 := [180, 0, 9, 5, 92, 46, 7, 27, 104, 96, 79, 42, 180, 0, 9, 5, 46, 172]
abbrev dktX3_sell_4 : List UInt8 := dkwX3_sell_4 ++ []
def dkwX3_sell_3 : List UInt8 := [182, 0, 118, 42, 180, 0, 9, 6, 92, 46, 28, 100, 79, 42, 180, 0, 9, 8, 92, 46, 28, 96, 79, 42]
abbrev dktX3_sell_3 : List UInt8 := dkwX3_sell_3 ++ dktX3_sell_4
def dkwX3_sell_2 : List UInt8 := [16, 8, 28, 42, 180, 0, 9, 6, 46, 100, 182, 0, 108, 182, 0, 94, 153, 0, 5, 3, 172, 42]
abbrev dktX3_sell_2 : List UInt8 := dkwX3_sell_2 ++ dktX3_sell_3
def dkwX3_sell_1 : List UInt8 := [172, 16, 10, 27, 104, 61, 42, 5, 42, 42, 180, 0, 9, 6, 46, 28, 162, 0, 7, 4, 167, 0, 4, 3]
abbrev dktX3_sell_1 : List UInt8 := dkwX3_sell_1 ++ dktX3_sell_2
def dkwX3_sell_0 : List UInt8 := [42, 4, 27, 4, 16, 20, 184, 0, 68, 154, 0, 7, 4, 167, 0, 4, 3, 182, 0, 94, 153, 0, 5, 3]
abbrev dktX3_sell_0 : List UInt8 := dkwX3_sell_0 ++ dktX3_sell_1
theorem dksX3_sell_0 : cX3_sell.data.toList.drop 0 = dktX3_sell_0 := by decide +kernel
theorem dksX3_sell_1 : cX3_sell.data.toList.drop 24 = dktX3_sell_1 := dk_seg dksX3_sell_0 24 rfl rfl
theorem dksX3_sell_2 : cX3_sell.data.toList.drop 48 = dktX3_sell_2 := dk_seg dksX3_sell_1 24 rfl rfl
theorem dksX3_sell_3 : cX3_sell.data.toList.drop 70 = dktX3_sell_3 := dk_seg dksX3_sell_2 22 rfl rfl
theorem dksX3_sell_4 : cX3_sell.data.toList.drop 94 = dktX3_sell_4 := dk_seg dksX3_sell_3 24 rfl rfl
theorem dX3_sell_0 : decode cX3_sell 0 = .ok (.aload_n 0, 1) := dk_42 (dk_at dksX3_sell_0 0 rfl rfl)
theorem dX3_sell_1 : decode cX3_sell 1 = .ok (.iconst 1, 1) := dk_4 (dk_at dksX3_sell_0 1 rfl rfl)
theorem dX3_sell_2 : decode cX3_sell 2 = .ok (.iload_n 1, 1) := dk_27 (dk_at dksX3_sell_0 2 rfl rfl)
theorem dX3_sell_3 : decode cX3_sell 3 = .ok (.iconst 1, 1) := dk_4 (dk_at dksX3_sell_0 3 rfl rfl)
theorem dX3_sell_4 : decode cX3_sell 4 = .ok (.bipush 20, 2) := dk_16 20 (dk_at dksX3_sell_0 4 rfl rfl)
theorem dX3_sell_6 : decode cX3_sell 6 = .ok (.invokestatic 68, 3) := dk_184 0 68 (dk_at dksX3_sell_0 6 rfl rfl)
theorem dX3_sell_9 : decode cX3_sell 9 = .ok (.ifCond .ne 7, 3) := dk_154 0 7 (dk_at dksX3_sell_0 9 rfl rfl)
theorem dX3_sell_12 : decode cX3_sell 12 = .ok (.iconst 1, 1) := dk_4 (dk_at dksX3_sell_0 12 rfl rfl)
theorem dX3_sell_13 : decode cX3_sell 13 = .ok (.goto 4, 3) := dk_167 0 4 (dk_at dksX3_sell_0 13 rfl rfl)
theorem dX3_sell_16 : decode cX3_sell 16 = .ok (.iconst 0, 1) := dk_3 (dk_at dksX3_sell_0 16 rfl rfl)
theorem dX3_sell_17 : decode cX3_sell 17 = .ok (.invokevirtual 94, 3) := dk_182 0 94 (dk_at dksX3_sell_0 17 rfl rfl)
theorem dX3_sell_20 : decode cX3_sell 20 = .ok (.ifCond .eq 5, 3) := dk_153 0 5 (dk_at dksX3_sell_0 20 rfl rfl)
theorem dX3_sell_23 : decode cX3_sell 23 = .ok (.iconst 0, 1) := dk_3 (dk_at dksX3_sell_0 23 rfl rfl)
theorem dX3_sell_24 : decode cX3_sell 24 = .ok (.ireturn, 1) := dk_172 (dk_at dksX3_sell_1 0 rfl rfl)
theorem dX3_sell_25 : decode cX3_sell 25 = .ok (.bipush 10, 2) := dk_16 10 (dk_at dksX3_sell_1 1 rfl rfl)
theorem dX3_sell_27 : decode cX3_sell 27 = .ok (.iload_n 1, 1) := dk_27 (dk_at dksX3_sell_1 3 rfl rfl)
theorem dX3_sell_28 : decode cX3_sell 28 = .ok (.imul, 1) := dk_104 (dk_at dksX3_sell_1 4 rfl rfl)
theorem dX3_sell_29 : decode cX3_sell 29 = .ok (.istore_n 2, 1) := dk_61 (dk_at dksX3_sell_1 5 rfl rfl)
theorem dX3_sell_30 : decode cX3_sell 30 = .ok (.aload_n 0, 1) := dk_42 (dk_at dksX3_sell_1 6 rfl rfl)
theorem dX3_sell_31 : decode cX3_sell 31 = .ok (.iconst 2, 1) := dk_5 (dk_at dksX3_sell_1 7 rfl rfl)
theorem dX3_sell_32 : decode cX3_sell 32 = .ok (.aload_n 0, 1) := dk_42 (dk_at dksX3_sell_1 8 rfl rfl)
theorem dX3_sell_33 : decode cX3_sell 33 = .ok (.aload_n 0, 1) := dk_42 (dk_at dksX3_sell_1 9 rfl rfl)
theorem dX3_sell_34 : decode cX3_sell 34 = .ok (.getfield 9, 3) := dk_180 0 9 (dk_at dksX3_sell_1 10 rfl rfl)
theorem dX3_sell_37 : decode cX3_sell 37 = .ok (.iconst 3, 1) := dk_6 (dk_at dksX3_sell_1 13 rfl rfl)
theorem dX3_sell_38 : decode cX3_sell 38 = .ok (.iaload, 1) := dk_46 (dk_at dksX3_sell_1 14 rfl rfl)
theorem dX3_sell_39 : decode cX3_sell 39 = .ok (.iload_n 2, 1) := dk_28 (dk_at dksX3_sell_1 15 rfl rfl)
theorem dX3_sell_40 : decode cX3_sell 40 = .ok (.if_icmp .ge 7, 3) := dk_162 0 7 (dk_at dksX3_sell_1 16 rfl rfl)
theorem dX3_sell_43 : decode cX3_sell 43 = .ok (.iconst 1, 1) := dk_4 (dk_at dksX3_sell_1 19 rfl rfl)
theorem dX3_sell_44 : decode cX3_sell 44 = .ok (.goto 4, 3) := dk_167 0 4 (dk_at dksX3_sell_1 20 rfl rfl)
theorem dX3_sell_47 : decode cX3_sell 47 = .ok (.iconst 0, 1) := dk_3 (dk_at dksX3_sell_1 23 rfl rfl)
theorem dX3_sell_48 : decode cX3_sell 48 = .ok (.bipush 8, 2) := dk_16 8 (dk_at dksX3_sell_2 0 rfl rfl)
theorem dX3_sell_50 : decode cX3_sell 50 = .ok (.iload_n 2, 1) := dk_28 (dk_at dksX3_sell_2 2 rfl rfl)
theorem dX3_sell_51 : decode cX3_sell 51 = .ok (.aload_n 0, 1) := dk_42 (dk_at dksX3_sell_2 3 rfl rfl)
theorem dX3_sell_52 : decode cX3_sell 52 = .ok (.getfield 9, 3) := dk_180 0 9 (dk_at dksX3_sell_2 4 rfl rfl)
theorem dX3_sell_55 : decode cX3_sell 55 = .ok (.iconst 3, 1) := dk_6 (dk_at dksX3_sell_2 7 rfl rfl)
theorem dX3_sell_56 : decode cX3_sell 56 = .ok (.iaload, 1) := dk_46 (dk_at dksX3_sell_2 8 rfl rfl)
theorem dX3_sell_57 : decode cX3_sell 57 = .ok (.isub, 1) := dk_100 (dk_at dksX3_sell_2 9 rfl rfl)
theorem dX3_sell_58 : decode cX3_sell 58 = .ok (.invokevirtual 108, 3) := dk_182 0 108 (dk_at dksX3_sell_2 10 rfl rfl)
theorem dX3_sell_61 : decode cX3_sell 61 = .ok (.invokevirtual 94, 3) := dk_182 0 94 (dk_at dksX3_sell_2 13 rfl rfl)
theorem dX3_sell_64 : decode cX3_sell 64 = .ok (.ifCond .eq 5, 3) := dk_153 0 5 (dk_at dksX3_sell_2 16 rfl rfl)
theorem dX3_sell_67 : decode cX3_sell 67 = .ok (.iconst 0, 1) := dk_3 (dk_at dksX3_sell_2 19 rfl rfl)
theorem dX3_sell_68 : decode cX3_sell 68 = .ok (.ireturn, 1) := dk_172 (dk_at dksX3_sell_2 20 rfl rfl)
theorem dX3_sell_69 : decode cX3_sell 69 = .ok (.aload_n 0, 1) := dk_42 (dk_at dksX3_sell_2 21 rfl rfl)
theorem dX3_sell_70 : decode cX3_sell 70 = .ok (.invokevirtual 118, 3) := dk_182 0 118 (dk_at dksX3_sell_3 0 rfl rfl)
theorem dX3_sell_73 : decode cX3_sell 73 = .ok (.aload_n 0, 1) := dk_42 (dk_at dksX3_sell_3 3 rfl rfl)
theorem dX3_sell_74 : decode cX3_sell 74 = .ok (.getfield 9, 3) := dk_180 0 9 (dk_at dksX3_sell_3 4 rfl rfl)
theorem dX3_sell_77 : decode cX3_sell 77 = .ok (.iconst 3, 1) := dk_6 (dk_at dksX3_sell_3 7 rfl rfl)
theorem dX3_sell_78 : decode cX3_sell 78 = .ok (.dup2, 1) := dk_92 (dk_at dksX3_sell_3 8 rfl rfl)
theorem dX3_sell_79 : decode cX3_sell 79 = .ok (.iaload, 1) := dk_46 (dk_at dksX3_sell_3 9 rfl rfl)
theorem dX3_sell_80 : decode cX3_sell 80 = .ok (.iload_n 2, 1) := dk_28 (dk_at dksX3_sell_3 10 rfl rfl)
theorem dX3_sell_81 : decode cX3_sell 81 = .ok (.isub, 1) := dk_100 (dk_at dksX3_sell_3 11 rfl rfl)
theorem dX3_sell_82 : decode cX3_sell 82 = .ok (.iastore, 1) := dk_79 (dk_at dksX3_sell_3 12 rfl rfl)
theorem dX3_sell_83 : decode cX3_sell 83 = .ok (.aload_n 0, 1) := dk_42 (dk_at dksX3_sell_3 13 rfl rfl)
theorem dX3_sell_84 : decode cX3_sell 84 = .ok (.getfield 9, 3) := dk_180 0 9 (dk_at dksX3_sell_3 14 rfl rfl)
theorem dX3_sell_87 : decode cX3_sell 87 = .ok (.iconst 5, 1) := dk_8 (dk_at dksX3_sell_3 17 rfl rfl)
theorem dX3_sell_88 : decode cX3_sell 88 = .ok (.dup2, 1) := dk_92 (dk_at dksX3_sell_3 18 rfl rfl)
theorem dX3_sell_89 : decode cX3_sell 89 = .ok (.iaload, 1) := dk_46 (dk_at dksX3_sell_3 19 rfl rfl)
theorem dX3_sell_90 : decode cX3_sell 90 = .ok (.iload_n 2, 1) := dk_28 (dk_at dksX3_sell_3 20 rfl rfl)
theorem dX3_sell_91 : decode cX3_sell 91 = .ok (.iadd, 1) := dk_96 (dk_at dksX3_sell_3 21 rfl rfl)
theorem dX3_sell_92 : decode cX3_sell 92 = .ok (.iastore, 1) := dk_79 (dk_at dksX3_sell_3 22 rfl rfl)
theorem dX3_sell_93 : decode cX3_sell 93 = .ok (.aload_n 0, 1) := dk_42 (dk_at dksX3_sell_3 23 rfl rfl)
theorem dX3_sell_94 : decode cX3_sell 94 = .ok (.getfield 9, 3) := dk_180 0 9 (dk_at dksX3_sell_4 0 rfl rfl)
theorem dX3_sell_97 : decode cX3_sell 97 = .ok (.iconst 2, 1) := dk_5 (dk_at dksX3_sell_4 3 rfl rfl)
theorem dX3_sell_98 : decode cX3_sell 98 = .ok (.dup2, 1) := dk_92 (dk_at dksX3_sell_4 4 rfl rfl)
theorem dX3_sell_99 : decode cX3_sell 99 = .ok (.iaload, 1) := dk_46 (dk_at dksX3_sell_4 5 rfl rfl)
theorem dX3_sell_100 : decode cX3_sell 100 = .ok (.iconst 4, 1) := dk_7 (dk_at dksX3_sell_4 6 rfl rfl)
theorem dX3_sell_101 : decode cX3_sell 101 = .ok (.iload_n 1, 1) := dk_27 (dk_at dksX3_sell_4 7 rfl rfl)
theorem dX3_sell_102 : decode cX3_sell 102 = .ok (.imul, 1) := dk_104 (dk_at dksX3_sell_4 8 rfl rfl)
theorem dX3_sell_103 : decode cX3_sell 103 = .ok (.iadd, 1) := dk_96 (dk_at dksX3_sell_4 9 rfl rfl)
theorem dX3_sell_104 : decode cX3_sell 104 = .ok (.iastore, 1) := dk_79 (dk_at dksX3_sell_4 10 rfl rfl)
theorem dX3_sell_105 : decode cX3_sell 105 = .ok (.aload_n 0, 1) := dk_42 (dk_at dksX3_sell_4 11 rfl rfl)
theorem dX3_sell_106 : decode cX3_sell 106 = .ok (.getfield 9, 3) := dk_180 0 9 (dk_at dksX3_sell_4 12 rfl rfl)
theorem dX3_sell_109 : decode cX3_sell 109 = .ok (.iconst 2, 1) := dk_5 (dk_at dksX3_sell_4 15 rfl rfl)
theorem dX3_sell_110 : decode cX3_sell 110 = .ok (.iaload, 1) := dk_46 (dk_at dksX3_sell_4 16 rfl rfl)
theorem dX3_sell_111 : decode cX3_sell 111 = .ok (.ireturn, 1) := dk_172 (dk_at dksX3_sell_4 17 rfl rfl)
abbrev cX3_bench : ByteArray := prog_14_method_57_code
def yX3_bench : MethodName := ⟨RX3, "bench", "(I)I"⟩
def dkwX3_bench_4 : List UInt8 := [3, 79, 42, 180, 0, 9, 16, 12, 92, 46, 4, 96, 79, 42, 180, 0, 9, 16, 12, 46, 4, 100, 172]
abbrev dktX3_bench_4 : List UInt8 := dkwX3_bench_4 ++ []
def dkwX3_bench_3 : List UInt8 := [180, 0, 9, 28, 3, 96, 27, 79, 42, 180, 0, 9, 28, 4, 96, 3, 79, 42, 180, 0, 9, 28, 5, 96]
abbrev dktX3_bench_3 : List UInt8 := dkwX3_bench_3 ++ dktX3_bench_4
def dkwX3_bench_2 : List UInt8 := [153, 0, 5, 3, 172, 42, 182, 0, 118, 16, 118, 6, 42, 180, 0, 9, 16, 12, 46, 104, 96, 61, 42]
abbrev dktX3_bench_2 : List UInt8 := dkwX3_bench_2 ++ dktX3_bench_3
def dkwX3_bench_1 : List UInt8 := [180, 0, 9, 16, 12, 46, 7, 160, 0, 7, 4, 167, 0, 4, 3, 4, 7, 182, 0, 108, 182, 0, 94]
abbrev dktX3_bench_1 : List UInt8 := dkwX3_bench_1 ++ dktX3_bench_2
def dkwX3_bench_0 : List UInt8 := [42, 4, 27, 184, 0, 112, 154, 0, 7, 4, 167, 0, 4, 3, 182, 0, 94, 154, 0, 33, 42, 5, 42, 42]
abbrev dktX3_bench_0 : List UInt8 := dkwX3_bench_0 ++ dktX3_bench_1
theorem dksX3_bench_0 : cX3_bench.data.toList.drop 0 = dktX3_bench_0 := by decide +kernel
theorem dksX3_bench_1 : cX3_bench.data.toList.drop 24 = dktX3_bench_1 := dk_seg dksX3_bench_0 24 rfl rfl
theorem dksX3_bench_2 : cX3_bench.data.toList.drop 47 = dktX3_bench_2 := dk_seg dksX3_bench_1 23 rfl rfl
theorem dksX3_bench_3 : cX3_bench.data.toList.drop 70 = dktX3_bench_3 := dk_seg dksX3_bench_2 23 rfl rfl
theorem dksX3_bench_4 : cX3_bench.data.toList.drop 94 = dktX3_bench_4 := dk_seg dksX3_bench_3 24 rfl rfl
theorem dX3_bench_0 : decode cX3_bench 0 = .ok (.aload_n 0, 1) := dk_42 (dk_at dksX3_bench_0 0 rfl rfl)
theorem dX3_bench_1 : decode cX3_bench 1 = .ok (.iconst 1, 1) := dk_4 (dk_at dksX3_bench_0 1 rfl rfl)
theorem dX3_bench_2 : decode cX3_bench 2 = .ok (.iload_n 1, 1) := dk_27 (dk_at dksX3_bench_0 2 rfl rfl)
theorem dX3_bench_3 : decode cX3_bench 3 = .ok (.invokestatic 112, 3) := dk_184 0 112 (dk_at dksX3_bench_0 3 rfl rfl)
theorem dX3_bench_6 : decode cX3_bench 6 = .ok (.ifCond .ne 7, 3) := dk_154 0 7 (dk_at dksX3_bench_0 6 rfl rfl)
theorem dX3_bench_9 : decode cX3_bench 9 = .ok (.iconst 1, 1) := dk_4 (dk_at dksX3_bench_0 9 rfl rfl)
theorem dX3_bench_10 : decode cX3_bench 10 = .ok (.goto 4, 3) := dk_167 0 4 (dk_at dksX3_bench_0 10 rfl rfl)
theorem dX3_bench_13 : decode cX3_bench 13 = .ok (.iconst 0, 1) := dk_3 (dk_at dksX3_bench_0 13 rfl rfl)
theorem dX3_bench_14 : decode cX3_bench 14 = .ok (.invokevirtual 94, 3) := dk_182 0 94 (dk_at dksX3_bench_0 14 rfl rfl)
theorem dX3_bench_17 : decode cX3_bench 17 = .ok (.ifCond .ne 33, 3) := dk_154 0 33 (dk_at dksX3_bench_0 17 rfl rfl)
theorem dX3_bench_20 : decode cX3_bench 20 = .ok (.aload_n 0, 1) := dk_42 (dk_at dksX3_bench_0 20 rfl rfl)
theorem dX3_bench_21 : decode cX3_bench 21 = .ok (.iconst 2, 1) := dk_5 (dk_at dksX3_bench_0 21 rfl rfl)
theorem dX3_bench_22 : decode cX3_bench 22 = .ok (.aload_n 0, 1) := dk_42 (dk_at dksX3_bench_0 22 rfl rfl)
theorem dX3_bench_23 : decode cX3_bench 23 = .ok (.aload_n 0, 1) := dk_42 (dk_at dksX3_bench_0 23 rfl rfl)
theorem dX3_bench_24 : decode cX3_bench 24 = .ok (.getfield 9, 3) := dk_180 0 9 (dk_at dksX3_bench_1 0 rfl rfl)
theorem dX3_bench_27 : decode cX3_bench 27 = .ok (.bipush 12, 2) := dk_16 12 (dk_at dksX3_bench_1 3 rfl rfl)
theorem dX3_bench_29 : decode cX3_bench 29 = .ok (.iaload, 1) := dk_46 (dk_at dksX3_bench_1 5 rfl rfl)
theorem dX3_bench_30 : decode cX3_bench 30 = .ok (.iconst 4, 1) := dk_7 (dk_at dksX3_bench_1 6 rfl rfl)
theorem dX3_bench_31 : decode cX3_bench 31 = .ok (.if_icmp .ne 7, 3) := dk_160 0 7 (dk_at dksX3_bench_1 7 rfl rfl)
theorem dX3_bench_34 : decode cX3_bench 34 = .ok (.iconst 1, 1) := dk_4 (dk_at dksX3_bench_1 10 rfl rfl)
theorem dX3_bench_35 : decode cX3_bench 35 = .ok (.goto 4, 3) := dk_167 0 4 (dk_at dksX3_bench_1 11 rfl rfl)
theorem dX3_bench_38 : decode cX3_bench 38 = .ok (.iconst 0, 1) := dk_3 (dk_at dksX3_bench_1 14 rfl rfl)
theorem dX3_bench_39 : decode cX3_bench 39 = .ok (.iconst 1, 1) := dk_4 (dk_at dksX3_bench_1 15 rfl rfl)
theorem dX3_bench_40 : decode cX3_bench 40 = .ok (.iconst 4, 1) := dk_7 (dk_at dksX3_bench_1 16 rfl rfl)
theorem dX3_bench_41 : decode cX3_bench 41 = .ok (.invokevirtual 108, 3) := dk_182 0 108 (dk_at dksX3_bench_1 17 rfl rfl)
theorem dX3_bench_44 : decode cX3_bench 44 = .ok (.invokevirtual 94, 3) := dk_182 0 94 (dk_at dksX3_bench_1 20 rfl rfl)
theorem dX3_bench_47 : decode cX3_bench 47 = .ok (.ifCond .eq 5, 3) := dk_153 0 5 (dk_at dksX3_bench_2 0 rfl rfl)
theorem dX3_bench_50 : decode cX3_bench 50 = .ok (.iconst 0, 1) := dk_3 (dk_at dksX3_bench_2 3 rfl rfl)
theorem dX3_bench_51 : decode cX3_bench 51 = .ok (.ireturn, 1) := dk_172 (dk_at dksX3_bench_2 4 rfl rfl)
theorem dX3_bench_52 : decode cX3_bench 52 = .ok (.aload_n 0, 1) := dk_42 (dk_at dksX3_bench_2 5 rfl rfl)
theorem dX3_bench_53 : decode cX3_bench 53 = .ok (.invokevirtual 118, 3) := dk_182 0 118 (dk_at dksX3_bench_2 6 rfl rfl)
theorem dX3_bench_56 : decode cX3_bench 56 = .ok (.bipush 118, 2) := dk_16 118 (dk_at dksX3_bench_2 9 rfl rfl)
theorem dX3_bench_58 : decode cX3_bench 58 = .ok (.iconst 3, 1) := dk_6 (dk_at dksX3_bench_2 11 rfl rfl)
theorem dX3_bench_59 : decode cX3_bench 59 = .ok (.aload_n 0, 1) := dk_42 (dk_at dksX3_bench_2 12 rfl rfl)
theorem dX3_bench_60 : decode cX3_bench 60 = .ok (.getfield 9, 3) := dk_180 0 9 (dk_at dksX3_bench_2 13 rfl rfl)
theorem dX3_bench_63 : decode cX3_bench 63 = .ok (.bipush 12, 2) := dk_16 12 (dk_at dksX3_bench_2 16 rfl rfl)
theorem dX3_bench_65 : decode cX3_bench 65 = .ok (.iaload, 1) := dk_46 (dk_at dksX3_bench_2 18 rfl rfl)
theorem dX3_bench_66 : decode cX3_bench 66 = .ok (.imul, 1) := dk_104 (dk_at dksX3_bench_2 19 rfl rfl)
theorem dX3_bench_67 : decode cX3_bench 67 = .ok (.iadd, 1) := dk_96 (dk_at dksX3_bench_2 20 rfl rfl)
theorem dX3_bench_68 : decode cX3_bench 68 = .ok (.istore_n 2, 1) := dk_61 (dk_at dksX3_bench_2 21 rfl rfl)
theorem dX3_bench_69 : decode cX3_bench 69 = .ok (.aload_n 0, 1) := dk_42 (dk_at dksX3_bench_2 22 rfl rfl)
theorem dX3_bench_70 : decode cX3_bench 70 = .ok (.getfield 9, 3) := dk_180 0 9 (dk_at dksX3_bench_3 0 rfl rfl)
theorem dX3_bench_73 : decode cX3_bench 73 = .ok (.iload_n 2, 1) := dk_28 (dk_at dksX3_bench_3 3 rfl rfl)
theorem dX3_bench_74 : decode cX3_bench 74 = .ok (.iconst 0, 1) := dk_3 (dk_at dksX3_bench_3 4 rfl rfl)
theorem dX3_bench_75 : decode cX3_bench 75 = .ok (.iadd, 1) := dk_96 (dk_at dksX3_bench_3 5 rfl rfl)
theorem dX3_bench_76 : decode cX3_bench 76 = .ok (.iload_n 1, 1) := dk_27 (dk_at dksX3_bench_3 6 rfl rfl)
theorem dX3_bench_77 : decode cX3_bench 77 = .ok (.iastore, 1) := dk_79 (dk_at dksX3_bench_3 7 rfl rfl)
theorem dX3_bench_78 : decode cX3_bench 78 = .ok (.aload_n 0, 1) := dk_42 (dk_at dksX3_bench_3 8 rfl rfl)
theorem dX3_bench_79 : decode cX3_bench 79 = .ok (.getfield 9, 3) := dk_180 0 9 (dk_at dksX3_bench_3 9 rfl rfl)
theorem dX3_bench_82 : decode cX3_bench 82 = .ok (.iload_n 2, 1) := dk_28 (dk_at dksX3_bench_3 12 rfl rfl)
theorem dX3_bench_83 : decode cX3_bench 83 = .ok (.iconst 1, 1) := dk_4 (dk_at dksX3_bench_3 13 rfl rfl)
theorem dX3_bench_84 : decode cX3_bench 84 = .ok (.iadd, 1) := dk_96 (dk_at dksX3_bench_3 14 rfl rfl)
theorem dX3_bench_85 : decode cX3_bench 85 = .ok (.iconst 0, 1) := dk_3 (dk_at dksX3_bench_3 15 rfl rfl)
theorem dX3_bench_86 : decode cX3_bench 86 = .ok (.iastore, 1) := dk_79 (dk_at dksX3_bench_3 16 rfl rfl)
theorem dX3_bench_87 : decode cX3_bench 87 = .ok (.aload_n 0, 1) := dk_42 (dk_at dksX3_bench_3 17 rfl rfl)
theorem dX3_bench_88 : decode cX3_bench 88 = .ok (.getfield 9, 3) := dk_180 0 9 (dk_at dksX3_bench_3 18 rfl rfl)
theorem dX3_bench_91 : decode cX3_bench 91 = .ok (.iload_n 2, 1) := dk_28 (dk_at dksX3_bench_3 21 rfl rfl)
theorem dX3_bench_92 : decode cX3_bench 92 = .ok (.iconst 2, 1) := dk_5 (dk_at dksX3_bench_3 22 rfl rfl)
theorem dX3_bench_93 : decode cX3_bench 93 = .ok (.iadd, 1) := dk_96 (dk_at dksX3_bench_3 23 rfl rfl)
theorem dX3_bench_94 : decode cX3_bench 94 = .ok (.iconst 0, 1) := dk_3 (dk_at dksX3_bench_4 0 rfl rfl)
theorem dX3_bench_95 : decode cX3_bench 95 = .ok (.iastore, 1) := dk_79 (dk_at dksX3_bench_4 1 rfl rfl)
theorem dX3_bench_96 : decode cX3_bench 96 = .ok (.aload_n 0, 1) := dk_42 (dk_at dksX3_bench_4 2 rfl rfl)
theorem dX3_bench_97 : decode cX3_bench 97 = .ok (.getfield 9, 3) := dk_180 0 9 (dk_at dksX3_bench_4 3 rfl rfl)
theorem dX3_bench_100 : decode cX3_bench 100 = .ok (.bipush 12, 2) := dk_16 12 (dk_at dksX3_bench_4 6 rfl rfl)
theorem dX3_bench_102 : decode cX3_bench 102 = .ok (.dup2, 1) := dk_92 (dk_at dksX3_bench_4 8 rfl rfl)
theorem dX3_bench_103 : decode cX3_bench 103 = .ok (.iaload, 1) := dk_46 (dk_at dksX3_bench_4 9 rfl rfl)
theorem dX3_bench_104 : decode cX3_bench 104 = .ok (.iconst 1, 1) := dk_4 (dk_at dksX3_bench_4 10 rfl rfl)
theorem dX3_bench_105 : decode cX3_bench 105 = .ok (.iadd, 1) := dk_96 (dk_at dksX3_bench_4 11 rfl rfl)
theorem dX3_bench_106 : decode cX3_bench 106 = .ok (.iastore, 1) := dk_79 (dk_at dksX3_bench_4 12 rfl rfl)
theorem dX3_bench_107 : decode cX3_bench 107 = .ok (.aload_n 0, 1) := dk_42 (dk_at dksX3_bench_4 13 rfl rfl)
theorem dX3_bench_108 : decode cX3_bench 108 = .ok (.getfield 9, 3) := dk_180 0 9 (dk_at dksX3_bench_4 14 rfl rfl)
theorem dX3_bench_111 : decode cX3_bench 111 = .ok (.bipush 12, 2) := dk_16 12 (dk_at dksX3_bench_4 17 rfl rfl)
theorem dX3_bench_113 : decode cX3_bench 113 = .ok (.iaload, 1) := dk_46 (dk_at dksX3_bench_4 19 rfl rfl)
theorem dX3_bench_114 : decode cX3_bench 114 = .ok (.iconst 1, 1) := dk_4 (dk_at dksX3_bench_4 20 rfl rfl)
theorem dX3_bench_115 : decode cX3_bench 115 = .ok (.isub, 1) := dk_100 (dk_at dksX3_bench_4 21 rfl rfl)
theorem dX3_bench_116 : decode cX3_bench 116 = .ok (.ireturn, 1) := dk_172 (dk_at dksX3_bench_4 22 rfl rfl)
abbrev cX3_seat : ByteArray := prog_14_method_58_code
def yX3_seat : MethodName := ⟨RX3, "seat", "(II)I"⟩
def dkwX3_seat_5 : List UInt8 := [79, 42, 180, 0, 9, 5, 92, 46, 5, 28, 104, 96, 79, 42, 27, 4, 182, 0, 182, 172]
abbrev dktX3_seat_5 : List UInt8 := dkwX3_seat_5 ++ []
def dkwX3_seat_4 : List UInt8 := [96, 4, 96, 92, 46, 28, 96, 79, 42, 180, 0, 9, 16, 118, 6, 27, 104, 96, 5, 96, 92, 46, 28, 96]
abbrev dktX3_seat_4 : List UInt8 := dkwX3_seat_4 ++ dktX3_seat_5
def dkwX3_seat_3 : List UInt8 := [182, 0, 108, 182, 0, 94, 153, 0, 5, 3, 172, 42, 182, 0, 118, 42, 180, 0, 9, 16, 118, 6, 27, 104]
abbrev dktX3_seat_3 : List UInt8 := dkwX3_seat_3 ++ dktX3_seat_4
def dkwX3_seat_2 : List UInt8 := [42, 27, 4, 182, 0, 182, 100, 62, 42, 6, 42, 29, 28, 162, 0, 7, 4, 167, 0, 4, 3, 16, 9, 29]
abbrev dktX3_seat_2 : List UInt8 := dkwX3_seat_2 ++ dktX3_seat_3
def dkwX3_seat_1 : List UInt8 := [4, 16, 6, 184, 0, 68, 154, 0, 7, 4, 167, 0, 4, 3, 182, 0, 94, 153, 0, 5, 3, 172, 16, 6]
abbrev dktX3_seat_1 : List UInt8 := dkwX3_seat_1 ++ dktX3_seat_2
def dkwX3_seat_0 : List UInt8 := [42, 4, 42, 27, 182, 0, 179, 154, 0, 7, 4, 167, 0, 4, 3, 182, 0, 94, 154, 0, 26, 42, 5, 28]
abbrev dktX3_seat_0 : List UInt8 := dkwX3_seat_0 ++ dktX3_seat_1
theorem dksX3_seat_0 : cX3_seat.data.toList.drop 0 = dktX3_seat_0 := by decide +kernel
theorem dksX3_seat_1 : cX3_seat.data.toList.drop 24 = dktX3_seat_1 := dk_seg dksX3_seat_0 24 rfl rfl
theorem dksX3_seat_2 : cX3_seat.data.toList.drop 48 = dktX3_seat_2 := dk_seg dksX3_seat_1 24 rfl rfl
theorem dksX3_seat_3 : cX3_seat.data.toList.drop 72 = dktX3_seat_3 := dk_seg dksX3_seat_2 24 rfl rfl
theorem dksX3_seat_4 : cX3_seat.data.toList.drop 96 = dktX3_seat_4 := dk_seg dksX3_seat_3 24 rfl rfl
theorem dksX3_seat_5 : cX3_seat.data.toList.drop 120 = dktX3_seat_5 := dk_seg dksX3_seat_4 24 rfl rfl
theorem dX3_seat_0 : decode cX3_seat 0 = .ok (.aload_n 0, 1) := dk_42 (dk_at dksX3_seat_0 0 rfl rfl)
theorem dX3_seat_1 : decode cX3_seat 1 = .ok (.iconst 1, 1) := dk_4 (dk_at dksX3_seat_0 1 rfl rfl)
theorem dX3_seat_2 : decode cX3_seat 2 = .ok (.aload_n 0, 1) := dk_42 (dk_at dksX3_seat_0 2 rfl rfl)
theorem dX3_seat_3 : decode cX3_seat 3 = .ok (.iload_n 1, 1) := dk_27 (dk_at dksX3_seat_0 3 rfl rfl)
theorem dX3_seat_4 : decode cX3_seat 4 = .ok (.invokevirtual 179, 3) := dk_182 0 179 (dk_at dksX3_seat_0 4 rfl rfl)
theorem dX3_seat_7 : decode cX3_seat 7 = .ok (.ifCond .ne 7, 3) := dk_154 0 7 (dk_at dksX3_seat_0 7 rfl rfl)
theorem dX3_seat_10 : decode cX3_seat 10 = .ok (.iconst 1, 1) := dk_4 (dk_at dksX3_seat_0 10 rfl rfl)
theorem dX3_seat_11 : decode cX3_seat 11 = .ok (.goto 4, 3) := dk_167 0 4 (dk_at dksX3_seat_0 11 rfl rfl)
theorem dX3_seat_14 : decode cX3_seat 14 = .ok (.iconst 0, 1) := dk_3 (dk_at dksX3_seat_0 14 rfl rfl)
theorem dX3_seat_15 : decode cX3_seat 15 = .ok (.invokevirtual 94, 3) := dk_182 0 94 (dk_at dksX3_seat_0 15 rfl rfl)
theorem dX3_seat_18 : decode cX3_seat 18 = .ok (.ifCond .ne 26, 3) := dk_154 0 26 (dk_at dksX3_seat_0 18 rfl rfl)
theorem dX3_seat_21 : decode cX3_seat 21 = .ok (.aload_n 0, 1) := dk_42 (dk_at dksX3_seat_0 21 rfl rfl)
theorem dX3_seat_22 : decode cX3_seat 22 = .ok (.iconst 2, 1) := dk_5 (dk_at dksX3_seat_0 22 rfl rfl)
theorem dX3_seat_23 : decode cX3_seat 23 = .ok (.iload_n 2, 1) := dk_28 (dk_at dksX3_seat_0 23 rfl rfl)
theorem dX3_seat_24 : decode cX3_seat 24 = .ok (.iconst 1, 1) := dk_4 (dk_at dksX3_seat_1 0 rfl rfl)
theorem dX3_seat_25 : decode cX3_seat 25 = .ok (.bipush 6, 2) := dk_16 6 (dk_at dksX3_seat_1 1 rfl rfl)
theorem dX3_seat_27 : decode cX3_seat 27 = .ok (.invokestatic 68, 3) := dk_184 0 68 (dk_at dksX3_seat_1 3 rfl rfl)
theorem dX3_seat_30 : decode cX3_seat 30 = .ok (.ifCond .ne 7, 3) := dk_154 0 7 (dk_at dksX3_seat_1 6 rfl rfl)
theorem dX3_seat_33 : decode cX3_seat 33 = .ok (.iconst 1, 1) := dk_4 (dk_at dksX3_seat_1 9 rfl rfl)
theorem dX3_seat_34 : decode cX3_seat 34 = .ok (.goto 4, 3) := dk_167 0 4 (dk_at dksX3_seat_1 10 rfl rfl)
theorem dX3_seat_37 : decode cX3_seat 37 = .ok (.iconst 0, 1) := dk_3 (dk_at dksX3_seat_1 13 rfl rfl)
theorem dX3_seat_38 : decode cX3_seat 38 = .ok (.invokevirtual 94, 3) := dk_182 0 94 (dk_at dksX3_seat_1 14 rfl rfl)
theorem dX3_seat_41 : decode cX3_seat 41 = .ok (.ifCond .eq 5, 3) := dk_153 0 5 (dk_at dksX3_seat_1 17 rfl rfl)
theorem dX3_seat_44 : decode cX3_seat 44 = .ok (.iconst 0, 1) := dk_3 (dk_at dksX3_seat_1 20 rfl rfl)
theorem dX3_seat_45 : decode cX3_seat 45 = .ok (.ireturn, 1) := dk_172 (dk_at dksX3_seat_1 21 rfl rfl)
theorem dX3_seat_46 : decode cX3_seat 46 = .ok (.bipush 6, 2) := dk_16 6 (dk_at dksX3_seat_1 22 rfl rfl)
theorem dX3_seat_48 : decode cX3_seat 48 = .ok (.aload_n 0, 1) := dk_42 (dk_at dksX3_seat_2 0 rfl rfl)
theorem dX3_seat_49 : decode cX3_seat 49 = .ok (.iload_n 1, 1) := dk_27 (dk_at dksX3_seat_2 1 rfl rfl)
theorem dX3_seat_50 : decode cX3_seat 50 = .ok (.iconst 1, 1) := dk_4 (dk_at dksX3_seat_2 2 rfl rfl)
theorem dX3_seat_51 : decode cX3_seat 51 = .ok (.invokevirtual 182, 3) := dk_182 0 182 (dk_at dksX3_seat_2 3 rfl rfl)
theorem dX3_seat_54 : decode cX3_seat 54 = .ok (.isub, 1) := dk_100 (dk_at dksX3_seat_2 6 rfl rfl)
theorem dX3_seat_55 : decode cX3_seat 55 = .ok (.istore_n 3, 1) := dk_62 (dk_at dksX3_seat_2 7 rfl rfl)
theorem dX3_seat_56 : decode cX3_seat 56 = .ok (.aload_n 0, 1) := dk_42 (dk_at dksX3_seat_2 8 rfl rfl)
theorem dX3_seat_57 : decode cX3_seat 57 = .ok (.iconst 3, 1) := dk_6 (dk_at dksX3_seat_2 9 rfl rfl)
theorem dX3_seat_58 : decode cX3_seat 58 = .ok (.aload_n 0, 1) := dk_42 (dk_at dksX3_seat_2 10 rfl rfl)
theorem dX3_seat_59 : decode cX3_seat 59 = .ok (.iload_n 3, 1) := dk_29 (dk_at dksX3_seat_2 11 rfl rfl)
theorem dX3_seat_60 : decode cX3_seat 60 = .ok (.iload_n 2, 1) := dk_28 (dk_at dksX3_seat_2 12 rfl rfl)
theorem dX3_seat_61 : decode cX3_seat 61 = .ok (.if_icmp .ge 7, 3) := dk_162 0 7 (dk_at dksX3_seat_2 13 rfl rfl)
theorem dX3_seat_64 : decode cX3_seat 64 = .ok (.iconst 1, 1) := dk_4 (dk_at dksX3_seat_2 16 rfl rfl)
theorem dX3_seat_65 : decode cX3_seat 65 = .ok (.goto 4, 3) := dk_167 0 4 (dk_at dksX3_seat_2 17 rfl rfl)
theorem dX3_seat_68 : decode cX3_seat 68 = .ok (.iconst 0, 1) := dk_3 (dk_at dksX3_seat_2 20 rfl rfl)
theorem dX3_seat_69 : decode cX3_seat 69 = .ok (.bipush 9, 2) := dk_16 9 (dk_at dksX3_seat_2 21 rfl rfl)
theorem dX3_seat_71 : decode cX3_seat 71 = .ok (.iload_n 3, 1) := dk_29 (dk_at dksX3_seat_2 23 rfl rfl)
theorem dX3_seat_72 : decode cX3_seat 72 = .ok (.invokevirtual 108, 3) := dk_182 0 108 (dk_at dksX3_seat_3 0 rfl rfl)
theorem dX3_seat_75 : decode cX3_seat 75 = .ok (.invokevirtual 94, 3) := dk_182 0 94 (dk_at dksX3_seat_3 3 rfl rfl)
theorem dX3_seat_78 : decode cX3_seat 78 = .ok (.ifCond .eq 5, 3) := dk_153 0 5 (dk_at dksX3_seat_3 6 rfl rfl)
theorem dX3_seat_81 : decode cX3_seat 81 = .ok (.iconst 0, 1) := dk_3 (dk_at dksX3_seat_3 9 rfl rfl)
theorem dX3_seat_82 : decode cX3_seat 82 = .ok (.ireturn, 1) := dk_172 (dk_at dksX3_seat_3 10 rfl rfl)
theorem dX3_seat_83 : decode cX3_seat 83 = .ok (.aload_n 0, 1) := dk_42 (dk_at dksX3_seat_3 11 rfl rfl)
theorem dX3_seat_84 : decode cX3_seat 84 = .ok (.invokevirtual 118, 3) := dk_182 0 118 (dk_at dksX3_seat_3 12 rfl rfl)
theorem dX3_seat_87 : decode cX3_seat 87 = .ok (.aload_n 0, 1) := dk_42 (dk_at dksX3_seat_3 15 rfl rfl)
theorem dX3_seat_88 : decode cX3_seat 88 = .ok (.getfield 9, 3) := dk_180 0 9 (dk_at dksX3_seat_3 16 rfl rfl)
theorem dX3_seat_91 : decode cX3_seat 91 = .ok (.bipush 118, 2) := dk_16 118 (dk_at dksX3_seat_3 19 rfl rfl)
theorem dX3_seat_93 : decode cX3_seat 93 = .ok (.iconst 3, 1) := dk_6 (dk_at dksX3_seat_3 21 rfl rfl)
theorem dX3_seat_94 : decode cX3_seat 94 = .ok (.iload_n 1, 1) := dk_27 (dk_at dksX3_seat_3 22 rfl rfl)
theorem dX3_seat_95 : decode cX3_seat 95 = .ok (.imul, 1) := dk_104 (dk_at dksX3_seat_3 23 rfl rfl)
theorem dX3_seat_96 : decode cX3_seat 96 = .ok (.iadd, 1) := dk_96 (dk_at dksX3_seat_4 0 rfl rfl)
theorem dX3_seat_97 : decode cX3_seat 97 = .ok (.iconst 1, 1) := dk_4 (dk_at dksX3_seat_4 1 rfl rfl)
theorem dX3_seat_98 : decode cX3_seat 98 = .ok (.iadd, 1) := dk_96 (dk_at dksX3_seat_4 2 rfl rfl)
theorem dX3_seat_99 : decode cX3_seat 99 = .ok (.dup2, 1) := dk_92 (dk_at dksX3_seat_4 3 rfl rfl)
theorem dX3_seat_100 : decode cX3_seat 100 = .ok (.iaload, 1) := dk_46 (dk_at dksX3_seat_4 4 rfl rfl)
theorem dX3_seat_101 : decode cX3_seat 101 = .ok (.iload_n 2, 1) := dk_28 (dk_at dksX3_seat_4 5 rfl rfl)
theorem dX3_seat_102 : decode cX3_seat 102 = .ok (.iadd, 1) := dk_96 (dk_at dksX3_seat_4 6 rfl rfl)
theorem dX3_seat_103 : decode cX3_seat 103 = .ok (.iastore, 1) := dk_79 (dk_at dksX3_seat_4 7 rfl rfl)
theorem dX3_seat_104 : decode cX3_seat 104 = .ok (.aload_n 0, 1) := dk_42 (dk_at dksX3_seat_4 8 rfl rfl)
theorem dX3_seat_105 : decode cX3_seat 105 = .ok (.getfield 9, 3) := dk_180 0 9 (dk_at dksX3_seat_4 9 rfl rfl)
theorem dX3_seat_108 : decode cX3_seat 108 = .ok (.bipush 118, 2) := dk_16 118 (dk_at dksX3_seat_4 12 rfl rfl)
theorem dX3_seat_110 : decode cX3_seat 110 = .ok (.iconst 3, 1) := dk_6 (dk_at dksX3_seat_4 14 rfl rfl)
theorem dX3_seat_111 : decode cX3_seat 111 = .ok (.iload_n 1, 1) := dk_27 (dk_at dksX3_seat_4 15 rfl rfl)
theorem dX3_seat_112 : decode cX3_seat 112 = .ok (.imul, 1) := dk_104 (dk_at dksX3_seat_4 16 rfl rfl)
theorem dX3_seat_113 : decode cX3_seat 113 = .ok (.iadd, 1) := dk_96 (dk_at dksX3_seat_4 17 rfl rfl)
theorem dX3_seat_114 : decode cX3_seat 114 = .ok (.iconst 2, 1) := dk_5 (dk_at dksX3_seat_4 18 rfl rfl)
theorem dX3_seat_115 : decode cX3_seat 115 = .ok (.iadd, 1) := dk_96 (dk_at dksX3_seat_4 19 rfl rfl)
theorem dX3_seat_116 : decode cX3_seat 116 = .ok (.dup2, 1) := dk_92 (dk_at dksX3_seat_4 20 rfl rfl)
theorem dX3_seat_117 : decode cX3_seat 117 = .ok (.iaload, 1) := dk_46 (dk_at dksX3_seat_4 21 rfl rfl)
theorem dX3_seat_118 : decode cX3_seat 118 = .ok (.iload_n 2, 1) := dk_28 (dk_at dksX3_seat_4 22 rfl rfl)
theorem dX3_seat_119 : decode cX3_seat 119 = .ok (.iadd, 1) := dk_96 (dk_at dksX3_seat_4 23 rfl rfl)
theorem dX3_seat_120 : decode cX3_seat 120 = .ok (.iastore, 1) := dk_79 (dk_at dksX3_seat_5 0 rfl rfl)
theorem dX3_seat_121 : decode cX3_seat 121 = .ok (.aload_n 0, 1) := dk_42 (dk_at dksX3_seat_5 1 rfl rfl)
theorem dX3_seat_122 : decode cX3_seat 122 = .ok (.getfield 9, 3) := dk_180 0 9 (dk_at dksX3_seat_5 2 rfl rfl)
theorem dX3_seat_125 : decode cX3_seat 125 = .ok (.iconst 2, 1) := dk_5 (dk_at dksX3_seat_5 5 rfl rfl)
theorem dX3_seat_126 : decode cX3_seat 126 = .ok (.dup2, 1) := dk_92 (dk_at dksX3_seat_5 6 rfl rfl)
theorem dX3_seat_127 : decode cX3_seat 127 = .ok (.iaload, 1) := dk_46 (dk_at dksX3_seat_5 7 rfl rfl)
theorem dX3_seat_128 : decode cX3_seat 128 = .ok (.iconst 2, 1) := dk_5 (dk_at dksX3_seat_5 8 rfl rfl)
theorem dX3_seat_129 : decode cX3_seat 129 = .ok (.iload_n 2, 1) := dk_28 (dk_at dksX3_seat_5 9 rfl rfl)
theorem dX3_seat_130 : decode cX3_seat 130 = .ok (.imul, 1) := dk_104 (dk_at dksX3_seat_5 10 rfl rfl)
theorem dX3_seat_131 : decode cX3_seat 131 = .ok (.iadd, 1) := dk_96 (dk_at dksX3_seat_5 11 rfl rfl)
theorem dX3_seat_132 : decode cX3_seat 132 = .ok (.iastore, 1) := dk_79 (dk_at dksX3_seat_5 12 rfl rfl)
theorem dX3_seat_133 : decode cX3_seat 133 = .ok (.aload_n 0, 1) := dk_42 (dk_at dksX3_seat_5 13 rfl rfl)
theorem dX3_seat_134 : decode cX3_seat 134 = .ok (.iload_n 1, 1) := dk_27 (dk_at dksX3_seat_5 14 rfl rfl)
theorem dX3_seat_135 : decode cX3_seat 135 = .ok (.iconst 1, 1) := dk_4 (dk_at dksX3_seat_5 15 rfl rfl)
theorem dX3_seat_136 : decode cX3_seat 136 = .ok (.invokevirtual 182, 3) := dk_182 0 182 (dk_at dksX3_seat_5 16 rfl rfl)
theorem dX3_seat_139 : decode cX3_seat 139 = .ok (.ireturn, 1) := dk_172 (dk_at dksX3_seat_5 19 rfl rfl)
abbrev cX3_isBench : ByteArray := prog_14_method_55_code
def yX3_isBench : MethodName := ⟨RX3, "isBench", "(I)Z"⟩
def dkwX3_isBench_0 : List UInt8 := [27, 3, 42, 180, 0, 9, 16, 12, 46, 4, 100, 184, 0, 68, 172]
abbrev dktX3_isBench_0 : List UInt8 := dkwX3_isBench_0 ++ []
theorem dksX3_isBench_0 : cX3_isBench.data.toList.drop 0 = dktX3_isBench_0 := by decide +kernel
theorem dX3_isBench_0 : decode cX3_isBench 0 = .ok (.iload_n 1, 1) := dk_27 (dk_at dksX3_isBench_0 0 rfl rfl)
theorem dX3_isBench_1 : decode cX3_isBench 1 = .ok (.iconst 0, 1) := dk_3 (dk_at dksX3_isBench_0 1 rfl rfl)
theorem dX3_isBench_2 : decode cX3_isBench 2 = .ok (.aload_n 0, 1) := dk_42 (dk_at dksX3_isBench_0 2 rfl rfl)
theorem dX3_isBench_3 : decode cX3_isBench 3 = .ok (.getfield 9, 3) := dk_180 0 9 (dk_at dksX3_isBench_0 3 rfl rfl)
theorem dX3_isBench_6 : decode cX3_isBench 6 = .ok (.bipush 12, 2) := dk_16 12 (dk_at dksX3_isBench_0 6 rfl rfl)
theorem dX3_isBench_8 : decode cX3_isBench 8 = .ok (.iaload, 1) := dk_46 (dk_at dksX3_isBench_0 8 rfl rfl)
theorem dX3_isBench_9 : decode cX3_isBench 9 = .ok (.iconst 1, 1) := dk_4 (dk_at dksX3_isBench_0 9 rfl rfl)
theorem dX3_isBench_10 : decode cX3_isBench 10 = .ok (.isub, 1) := dk_100 (dk_at dksX3_isBench_0 10 rfl rfl)
theorem dX3_isBench_11 : decode cX3_isBench 11 = .ok (.invokestatic 68, 3) := dk_184 0 68 (dk_at dksX3_isBench_0 11 rfl rfl)
theorem dX3_isBench_14 : decode cX3_isBench 14 = .ok (.ireturn, 1) := dk_172 (dk_at dksX3_isBench_0 14 rfl rfl)
abbrev cX3_ofBench : ByteArray := prog_14_method_56_code
def yX3_ofBench : MethodName := ⟨RX3, "ofBench", "(II)I"⟩
def dkwX3_ofBench_0 : List UInt8 := [42, 180, 0, 9, 16, 118, 6, 27, 104, 96, 28, 96, 46, 172]
abbrev dktX3_ofBench_0 : List UInt8 := dkwX3_ofBench_0 ++ []
theorem dksX3_ofBench_0 : cX3_ofBench.data.toList.drop 0 = dktX3_ofBench_0 := by decide +kernel
theorem dX3_ofBench_0 : decode cX3_ofBench 0 = .ok (.aload_n 0, 1) := dk_42 (dk_at dksX3_ofBench_0 0 rfl rfl)
theorem dX3_ofBench_1 : decode cX3_ofBench 1 = .ok (.getfield 9, 3) := dk_180 0 9 (dk_at dksX3_ofBench_0 1 rfl rfl)
theorem dX3_ofBench_4 : decode cX3_ofBench 4 = .ok (.bipush 118, 2) := dk_16 118 (dk_at dksX3_ofBench_0 4 rfl rfl)
theorem dX3_ofBench_6 : decode cX3_ofBench 6 = .ok (.iconst 3, 1) := dk_6 (dk_at dksX3_ofBench_0 6 rfl rfl)
theorem dX3_ofBench_7 : decode cX3_ofBench 7 = .ok (.iload_n 1, 1) := dk_27 (dk_at dksX3_ofBench_0 7 rfl rfl)
theorem dX3_ofBench_8 : decode cX3_ofBench 8 = .ok (.imul, 1) := dk_104 (dk_at dksX3_ofBench_0 8 rfl rfl)
theorem dX3_ofBench_9 : decode cX3_ofBench 9 = .ok (.iadd, 1) := dk_96 (dk_at dksX3_ofBench_0 9 rfl rfl)
theorem dX3_ofBench_10 : decode cX3_ofBench 10 = .ok (.iload_n 2, 1) := dk_28 (dk_at dksX3_ofBench_0 10 rfl rfl)
theorem dX3_ofBench_11 : decode cX3_ofBench 11 = .ok (.iadd, 1) := dk_96 (dk_at dksX3_ofBench_0 11 rfl rfl)
theorem dX3_ofBench_12 : decode cX3_ofBench 12 = .ok (.iaload, 1) := dk_46 (dk_at dksX3_ofBench_0 12 rfl rfl)
theorem dX3_ofBench_13 : decode cX3_ofBench 13 = .ok (.ireturn, 1) := dk_172 (dk_at dksX3_ofBench_0 13 rfl rfl)
abbrev cX3_benchOf : ByteArray := prog_14_method_59_code
def yX3_benchOf : MethodName := ⟨RX3, "benchOf", "(II)I"⟩
def dkwX3_benchOf_2 : List UInt8 := [27, 28, 182, 0, 182, 172]
abbrev dktX3_benchOf_2 : List UInt8 := dkwX3_benchOf_2 ++ []
def dkwX3_benchOf_1 : List UInt8 := [3, 5, 184, 0, 68, 154, 0, 7, 4, 167, 0, 4, 3, 182, 0, 94, 153, 0, 7, 3, 167, 0, 9, 42]
abbrev dktX3_benchOf_1 : List UInt8 := dkwX3_benchOf_1 ++ dktX3_benchOf_2
def dkwX3_benchOf_0 : List UInt8 := [42, 4, 42, 27, 182, 0, 179, 154, 0, 7, 4, 167, 0, 4, 3, 182, 0, 94, 154, 0, 25, 42, 5, 28]
abbrev dktX3_benchOf_0 : List UInt8 := dkwX3_benchOf_0 ++ dktX3_benchOf_1
theorem dksX3_benchOf_0 : cX3_benchOf.data.toList.drop 0 = dktX3_benchOf_0 := by decide +kernel
theorem dksX3_benchOf_1 : cX3_benchOf.data.toList.drop 24 = dktX3_benchOf_1 := dk_seg dksX3_benchOf_0 24 rfl rfl
theorem dksX3_benchOf_2 : cX3_benchOf.data.toList.drop 48 = dktX3_benchOf_2 := dk_seg dksX3_benchOf_1 24 rfl rfl
theorem dX3_benchOf_0 : decode cX3_benchOf 0 = .ok (.aload_n 0, 1) := dk_42 (dk_at dksX3_benchOf_0 0 rfl rfl)
theorem dX3_benchOf_1 : decode cX3_benchOf 1 = .ok (.iconst 1, 1) := dk_4 (dk_at dksX3_benchOf_0 1 rfl rfl)
theorem dX3_benchOf_2 : decode cX3_benchOf 2 = .ok (.aload_n 0, 1) := dk_42 (dk_at dksX3_benchOf_0 2 rfl rfl)
theorem dX3_benchOf_3 : decode cX3_benchOf 3 = .ok (.iload_n 1, 1) := dk_27 (dk_at dksX3_benchOf_0 3 rfl rfl)
theorem dX3_benchOf_4 : decode cX3_benchOf 4 = .ok (.invokevirtual 179, 3) := dk_182 0 179 (dk_at dksX3_benchOf_0 4 rfl rfl)
theorem dX3_benchOf_7 : decode cX3_benchOf 7 = .ok (.ifCond .ne 7, 3) := dk_154 0 7 (dk_at dksX3_benchOf_0 7 rfl rfl)
theorem dX3_benchOf_10 : decode cX3_benchOf 10 = .ok (.iconst 1, 1) := dk_4 (dk_at dksX3_benchOf_0 10 rfl rfl)
theorem dX3_benchOf_11 : decode cX3_benchOf 11 = .ok (.goto 4, 3) := dk_167 0 4 (dk_at dksX3_benchOf_0 11 rfl rfl)
theorem dX3_benchOf_14 : decode cX3_benchOf 14 = .ok (.iconst 0, 1) := dk_3 (dk_at dksX3_benchOf_0 14 rfl rfl)
theorem dX3_benchOf_15 : decode cX3_benchOf 15 = .ok (.invokevirtual 94, 3) := dk_182 0 94 (dk_at dksX3_benchOf_0 15 rfl rfl)
theorem dX3_benchOf_18 : decode cX3_benchOf 18 = .ok (.ifCond .ne 25, 3) := dk_154 0 25 (dk_at dksX3_benchOf_0 18 rfl rfl)
theorem dX3_benchOf_21 : decode cX3_benchOf 21 = .ok (.aload_n 0, 1) := dk_42 (dk_at dksX3_benchOf_0 21 rfl rfl)
theorem dX3_benchOf_22 : decode cX3_benchOf 22 = .ok (.iconst 2, 1) := dk_5 (dk_at dksX3_benchOf_0 22 rfl rfl)
theorem dX3_benchOf_23 : decode cX3_benchOf 23 = .ok (.iload_n 2, 1) := dk_28 (dk_at dksX3_benchOf_0 23 rfl rfl)
theorem dX3_benchOf_24 : decode cX3_benchOf 24 = .ok (.iconst 0, 1) := dk_3 (dk_at dksX3_benchOf_1 0 rfl rfl)
theorem dX3_benchOf_25 : decode cX3_benchOf 25 = .ok (.iconst 2, 1) := dk_5 (dk_at dksX3_benchOf_1 1 rfl rfl)
theorem dX3_benchOf_26 : decode cX3_benchOf 26 = .ok (.invokestatic 68, 3) := dk_184 0 68 (dk_at dksX3_benchOf_1 2 rfl rfl)
theorem dX3_benchOf_29 : decode cX3_benchOf 29 = .ok (.ifCond .ne 7, 3) := dk_154 0 7 (dk_at dksX3_benchOf_1 5 rfl rfl)
theorem dX3_benchOf_32 : decode cX3_benchOf 32 = .ok (.iconst 1, 1) := dk_4 (dk_at dksX3_benchOf_1 8 rfl rfl)
theorem dX3_benchOf_33 : decode cX3_benchOf 33 = .ok (.goto 4, 3) := dk_167 0 4 (dk_at dksX3_benchOf_1 9 rfl rfl)
theorem dX3_benchOf_36 : decode cX3_benchOf 36 = .ok (.iconst 0, 1) := dk_3 (dk_at dksX3_benchOf_1 12 rfl rfl)
theorem dX3_benchOf_37 : decode cX3_benchOf 37 = .ok (.invokevirtual 94, 3) := dk_182 0 94 (dk_at dksX3_benchOf_1 13 rfl rfl)
theorem dX3_benchOf_40 : decode cX3_benchOf 40 = .ok (.ifCond .eq 7, 3) := dk_153 0 7 (dk_at dksX3_benchOf_1 16 rfl rfl)
theorem dX3_benchOf_43 : decode cX3_benchOf 43 = .ok (.iconst 0, 1) := dk_3 (dk_at dksX3_benchOf_1 19 rfl rfl)
theorem dX3_benchOf_44 : decode cX3_benchOf 44 = .ok (.goto 9, 3) := dk_167 0 9 (dk_at dksX3_benchOf_1 20 rfl rfl)
theorem dX3_benchOf_47 : decode cX3_benchOf 47 = .ok (.aload_n 0, 1) := dk_42 (dk_at dksX3_benchOf_1 23 rfl rfl)
theorem dX3_benchOf_48 : decode cX3_benchOf 48 = .ok (.iload_n 1, 1) := dk_27 (dk_at dksX3_benchOf_2 0 rfl rfl)
theorem dX3_benchOf_49 : decode cX3_benchOf 49 = .ok (.iload_n 2, 1) := dk_28 (dk_at dksX3_benchOf_2 1 rfl rfl)
theorem dX3_benchOf_50 : decode cX3_benchOf 50 = .ok (.invokevirtual 182, 3) := dk_182 0 182 (dk_at dksX3_benchOf_2 2 rfl rfl)
theorem dX3_benchOf_53 : decode cX3_benchOf 53 = .ok (.ireturn, 1) := dk_172 (dk_at dksX3_benchOf_2 5 rfl rfl)
abbrev cX3_pass : ByteArray := prog_14_method_70_code
def yX3_pass : MethodName := ⟨RX3, "pass", "(I)I"⟩
def dkwX3_pass_2 : List UInt8 := [132, 3, 1, 167, 255, 244, 42, 180, 0, 9, 16, 9, 46, 28, 100, 172]
abbrev dktX3_pass_2 : List UInt8 := dkwX3_pass_2 ++ []
def dkwX3_pass_1 : List UInt8 := [172, 42, 182, 0, 118, 42, 180, 0, 9, 16, 9, 46, 61, 3, 62, 29, 27, 162, 0, 13, 42, 182, 0, 216]
abbrev dktX3_pass_1 : List UInt8 := dkwX3_pass_1 ++ dktX3_pass_2
def dkwX3_pass_0 : List UInt8 := [42, 4, 27, 4, 16, 60, 184, 0, 68, 154, 0, 7, 4, 167, 0, 4, 3, 182, 0, 94, 153, 0, 5, 3]
abbrev dktX3_pass_0 : List UInt8 := dkwX3_pass_0 ++ dktX3_pass_1
theorem dksX3_pass_0 : cX3_pass.data.toList.drop 0 = dktX3_pass_0 := by decide +kernel
theorem dksX3_pass_1 : cX3_pass.data.toList.drop 24 = dktX3_pass_1 := dk_seg dksX3_pass_0 24 rfl rfl
theorem dksX3_pass_2 : cX3_pass.data.toList.drop 48 = dktX3_pass_2 := dk_seg dksX3_pass_1 24 rfl rfl
theorem dX3_pass_0 : decode cX3_pass 0 = .ok (.aload_n 0, 1) := dk_42 (dk_at dksX3_pass_0 0 rfl rfl)
theorem dX3_pass_1 : decode cX3_pass 1 = .ok (.iconst 1, 1) := dk_4 (dk_at dksX3_pass_0 1 rfl rfl)
theorem dX3_pass_2 : decode cX3_pass 2 = .ok (.iload_n 1, 1) := dk_27 (dk_at dksX3_pass_0 2 rfl rfl)
theorem dX3_pass_3 : decode cX3_pass 3 = .ok (.iconst 1, 1) := dk_4 (dk_at dksX3_pass_0 3 rfl rfl)
theorem dX3_pass_4 : decode cX3_pass 4 = .ok (.bipush 60, 2) := dk_16 60 (dk_at dksX3_pass_0 4 rfl rfl)
theorem dX3_pass_6 : decode cX3_pass 6 = .ok (.invokestatic 68, 3) := dk_184 0 68 (dk_at dksX3_pass_0 6 rfl rfl)
theorem dX3_pass_9 : decode cX3_pass 9 = .ok (.ifCond .ne 7, 3) := dk_154 0 7 (dk_at dksX3_pass_0 9 rfl rfl)
theorem dX3_pass_12 : decode cX3_pass 12 = .ok (.iconst 1, 1) := dk_4 (dk_at dksX3_pass_0 12 rfl rfl)
theorem dX3_pass_13 : decode cX3_pass 13 = .ok (.goto 4, 3) := dk_167 0 4 (dk_at dksX3_pass_0 13 rfl rfl)
theorem dX3_pass_16 : decode cX3_pass 16 = .ok (.iconst 0, 1) := dk_3 (dk_at dksX3_pass_0 16 rfl rfl)
theorem dX3_pass_17 : decode cX3_pass 17 = .ok (.invokevirtual 94, 3) := dk_182 0 94 (dk_at dksX3_pass_0 17 rfl rfl)
theorem dX3_pass_20 : decode cX3_pass 20 = .ok (.ifCond .eq 5, 3) := dk_153 0 5 (dk_at dksX3_pass_0 20 rfl rfl)
theorem dX3_pass_23 : decode cX3_pass 23 = .ok (.iconst 0, 1) := dk_3 (dk_at dksX3_pass_0 23 rfl rfl)
theorem dX3_pass_24 : decode cX3_pass 24 = .ok (.ireturn, 1) := dk_172 (dk_at dksX3_pass_1 0 rfl rfl)
theorem dX3_pass_25 : decode cX3_pass 25 = .ok (.aload_n 0, 1) := dk_42 (dk_at dksX3_pass_1 1 rfl rfl)
theorem dX3_pass_26 : decode cX3_pass 26 = .ok (.invokevirtual 118, 3) := dk_182 0 118 (dk_at dksX3_pass_1 2 rfl rfl)
theorem dX3_pass_29 : decode cX3_pass 29 = .ok (.aload_n 0, 1) := dk_42 (dk_at dksX3_pass_1 5 rfl rfl)
theorem dX3_pass_30 : decode cX3_pass 30 = .ok (.getfield 9, 3) := dk_180 0 9 (dk_at dksX3_pass_1 6 rfl rfl)
theorem dX3_pass_33 : decode cX3_pass 33 = .ok (.bipush 9, 2) := dk_16 9 (dk_at dksX3_pass_1 9 rfl rfl)
theorem dX3_pass_35 : decode cX3_pass 35 = .ok (.iaload, 1) := dk_46 (dk_at dksX3_pass_1 11 rfl rfl)
theorem dX3_pass_36 : decode cX3_pass 36 = .ok (.istore_n 2, 1) := dk_61 (dk_at dksX3_pass_1 12 rfl rfl)
theorem dX3_pass_37 : decode cX3_pass 37 = .ok (.iconst 0, 1) := dk_3 (dk_at dksX3_pass_1 13 rfl rfl)
theorem dX3_pass_38 : decode cX3_pass 38 = .ok (.istore_n 3, 1) := dk_62 (dk_at dksX3_pass_1 14 rfl rfl)
theorem dX3_pass_39 : decode cX3_pass 39 = .ok (.iload_n 3, 1) := dk_29 (dk_at dksX3_pass_1 15 rfl rfl)
theorem dX3_pass_40 : decode cX3_pass 40 = .ok (.iload_n 1, 1) := dk_27 (dk_at dksX3_pass_1 16 rfl rfl)
theorem dX3_pass_41 : decode cX3_pass 41 = .ok (.if_icmp .ge 13, 3) := dk_162 0 13 (dk_at dksX3_pass_1 17 rfl rfl)
theorem dX3_pass_44 : decode cX3_pass 44 = .ok (.aload_n 0, 1) := dk_42 (dk_at dksX3_pass_1 20 rfl rfl)
theorem dX3_pass_45 : decode cX3_pass 45 = .ok (.invokevirtual 216, 3) := dk_182 0 216 (dk_at dksX3_pass_1 21 rfl rfl)
theorem dX3_pass_48 : decode cX3_pass 48 = .ok (.iinc 3 1, 3) := dk_132 3 1 (dk_at dksX3_pass_2 0 rfl rfl)
theorem dX3_pass_51 : decode cX3_pass 51 = .ok (.goto (-12), 3) := dk_167 255 244 (dk_at dksX3_pass_2 3 rfl rfl)
theorem dX3_pass_54 : decode cX3_pass 54 = .ok (.aload_n 0, 1) := dk_42 (dk_at dksX3_pass_2 6 rfl rfl)
theorem dX3_pass_55 : decode cX3_pass 55 = .ok (.getfield 9, 3) := dk_180 0 9 (dk_at dksX3_pass_2 7 rfl rfl)
theorem dX3_pass_58 : decode cX3_pass 58 = .ok (.bipush 9, 2) := dk_16 9 (dk_at dksX3_pass_2 10 rfl rfl)
theorem dX3_pass_60 : decode cX3_pass 60 = .ok (.iaload, 1) := dk_46 (dk_at dksX3_pass_2 12 rfl rfl)
theorem dX3_pass_61 : decode cX3_pass 61 = .ok (.iload_n 2, 1) := dk_28 (dk_at dksX3_pass_2 13 rfl rfl)
theorem dX3_pass_62 : decode cX3_pass 62 = .ok (.isub, 1) := dk_100 (dk_at dksX3_pass_2 14 rfl rfl)
theorem dX3_pass_63 : decode cX3_pass 63 = .ok (.ireturn, 1) := dk_172 (dk_at dksX3_pass_2 15 rfl rfl)
abbrev cX3_goDay : ByteArray := prog_14_method_69_code
def yX3_goDay : MethodName := ⟨RX3, "goDay", "()V"⟩
def dkwX3_goDay_7 : List UInt8 := [132, 2, 1, 167, 255, 227, 177]
abbrev dktX3_goDay_7 : List UInt8 := dkwX3_goDay_7 ++ []
def dkwX3_goDay_6 : List UInt8 := [180, 0, 9, 16, 11, 46, 162, 0, 24, 42, 28, 4, 16, 6, 42, 28, 4, 182, 0, 161, 100, 182, 0, 170]
abbrev dktX3_goDay_6 : List UInt8 := dkwX3_goDay_6 ++ dktX3_goDay_7
def dkwX3_goDay_5 : List UInt8 := [180, 0, 9, 5, 92, 46, 27, 100, 79, 42, 180, 0, 9, 16, 6, 92, 46, 27, 96, 79, 3, 61, 28, 42]
abbrev dktX3_goDay_5 : List UInt8 := dkwX3_goDay_5 ++ dktX3_goDay_6
def dkwX3_goDay_4 : List UInt8 := [42, 180, 0, 9, 5, 46, 6, 162, 0, 12, 42, 180, 0, 9, 5, 46, 167, 0, 4, 6, 60, 42]
abbrev dktX3_goDay_4 : List UInt8 := dkwX3_goDay_4 ++ dktX3_goDay_5
def dkwX3_goDay_3 : List UInt8 := [167, 255, 237, 42, 182, 0, 207, 42, 182, 0, 210, 42, 182, 0, 213, 16, 12, 163, 0, 7, 3, 167, 0, 23]
abbrev dktX3_goDay_3 : List UInt8 := dkwX3_goDay_3 ++ dktX3_goDay_4
def dkwX3_goDay_2 : List UInt8 := [167, 255, 231, 3, 60, 27, 42, 180, 0, 9, 16, 12, 46, 162, 0, 14, 42, 27, 182, 0, 204, 132, 1, 1]
abbrev dktX3_goDay_2 : List UInt8 := dkwX3_goDay_2 ++ dktX3_goDay_3
def dkwX3_goDay_1 : List UInt8 := [180, 0, 9, 16, 10, 46, 162, 0, 20, 42, 27, 4, 42, 27, 182, 0, 140, 182, 0, 104, 132, 1, 1]
abbrev dktX3_goDay_1 : List UInt8 := dkwX3_goDay_1 ++ dktX3_goDay_2
def dkwX3_goDay_0 : List UInt8 := [42, 180, 0, 9, 3, 92, 46, 4, 96, 79, 42, 182, 0, 198, 42, 182, 0, 201, 3, 60, 27, 42]
abbrev dktX3_goDay_0 : List UInt8 := dkwX3_goDay_0 ++ dktX3_goDay_1
theorem dksX3_goDay_0 : cX3_goDay.data.toList.drop 0 = dktX3_goDay_0 := by decide +kernel
theorem dksX3_goDay_1 : cX3_goDay.data.toList.drop 22 = dktX3_goDay_1 := dk_seg dksX3_goDay_0 22 rfl rfl
theorem dksX3_goDay_2 : cX3_goDay.data.toList.drop 45 = dktX3_goDay_2 := dk_seg dksX3_goDay_1 23 rfl rfl
theorem dksX3_goDay_3 : cX3_goDay.data.toList.drop 69 = dktX3_goDay_3 := dk_seg dksX3_goDay_2 24 rfl rfl
theorem dksX3_goDay_4 : cX3_goDay.data.toList.drop 93 = dktX3_goDay_4 := dk_seg dksX3_goDay_3 24 rfl rfl
theorem dksX3_goDay_5 : cX3_goDay.data.toList.drop 115 = dktX3_goDay_5 := dk_seg dksX3_goDay_4 22 rfl rfl
theorem dksX3_goDay_6 : cX3_goDay.data.toList.drop 139 = dktX3_goDay_6 := dk_seg dksX3_goDay_5 24 rfl rfl
theorem dksX3_goDay_7 : cX3_goDay.data.toList.drop 163 = dktX3_goDay_7 := dk_seg dksX3_goDay_6 24 rfl rfl
theorem dX3_goDay_0 : decode cX3_goDay 0 = .ok (.aload_n 0, 1) := dk_42 (dk_at dksX3_goDay_0 0 rfl rfl)
theorem dX3_goDay_1 : decode cX3_goDay 1 = .ok (.getfield 9, 3) := dk_180 0 9 (dk_at dksX3_goDay_0 1 rfl rfl)
theorem dX3_goDay_4 : decode cX3_goDay 4 = .ok (.iconst 0, 1) := dk_3 (dk_at dksX3_goDay_0 4 rfl rfl)
theorem dX3_goDay_5 : decode cX3_goDay 5 = .ok (.dup2, 1) := dk_92 (dk_at dksX3_goDay_0 5 rfl rfl)
theorem dX3_goDay_6 : decode cX3_goDay 6 = .ok (.iaload, 1) := dk_46 (dk_at dksX3_goDay_0 6 rfl rfl)
theorem dX3_goDay_7 : decode cX3_goDay 7 = .ok (.iconst 1, 1) := dk_4 (dk_at dksX3_goDay_0 7 rfl rfl)
theorem dX3_goDay_8 : decode cX3_goDay 8 = .ok (.iadd, 1) := dk_96 (dk_at dksX3_goDay_0 8 rfl rfl)
theorem dX3_goDay_9 : decode cX3_goDay 9 = .ok (.iastore, 1) := dk_79 (dk_at dksX3_goDay_0 9 rfl rfl)
theorem dX3_goDay_10 : decode cX3_goDay 10 = .ok (.aload_n 0, 1) := dk_42 (dk_at dksX3_goDay_0 10 rfl rfl)
theorem dX3_goDay_11 : decode cX3_goDay 11 = .ok (.invokevirtual 198, 3) := dk_182 0 198 (dk_at dksX3_goDay_0 11 rfl rfl)
theorem dX3_goDay_14 : decode cX3_goDay 14 = .ok (.aload_n 0, 1) := dk_42 (dk_at dksX3_goDay_0 14 rfl rfl)
theorem dX3_goDay_15 : decode cX3_goDay 15 = .ok (.invokevirtual 201, 3) := dk_182 0 201 (dk_at dksX3_goDay_0 15 rfl rfl)
theorem dX3_goDay_18 : decode cX3_goDay 18 = .ok (.iconst 0, 1) := dk_3 (dk_at dksX3_goDay_0 18 rfl rfl)
theorem dX3_goDay_19 : decode cX3_goDay 19 = .ok (.istore_n 1, 1) := dk_60 (dk_at dksX3_goDay_0 19 rfl rfl)
theorem dX3_goDay_20 : decode cX3_goDay 20 = .ok (.iload_n 1, 1) := dk_27 (dk_at dksX3_goDay_0 20 rfl rfl)
theorem dX3_goDay_21 : decode cX3_goDay 21 = .ok (.aload_n 0, 1) := dk_42 (dk_at dksX3_goDay_0 21 rfl rfl)
theorem dX3_goDay_22 : decode cX3_goDay 22 = .ok (.getfield 9, 3) := dk_180 0 9 (dk_at dksX3_goDay_1 0 rfl rfl)
theorem dX3_goDay_25 : decode cX3_goDay 25 = .ok (.bipush 10, 2) := dk_16 10 (dk_at dksX3_goDay_1 3 rfl rfl)
theorem dX3_goDay_27 : decode cX3_goDay 27 = .ok (.iaload, 1) := dk_46 (dk_at dksX3_goDay_1 5 rfl rfl)
theorem dX3_goDay_28 : decode cX3_goDay 28 = .ok (.if_icmp .ge 20, 3) := dk_162 0 20 (dk_at dksX3_goDay_1 6 rfl rfl)
theorem dX3_goDay_31 : decode cX3_goDay 31 = .ok (.aload_n 0, 1) := dk_42 (dk_at dksX3_goDay_1 9 rfl rfl)
theorem dX3_goDay_32 : decode cX3_goDay 32 = .ok (.iload_n 1, 1) := dk_27 (dk_at dksX3_goDay_1 10 rfl rfl)
theorem dX3_goDay_33 : decode cX3_goDay 33 = .ok (.iconst 1, 1) := dk_4 (dk_at dksX3_goDay_1 11 rfl rfl)
theorem dX3_goDay_34 : decode cX3_goDay 34 = .ok (.aload_n 0, 1) := dk_42 (dk_at dksX3_goDay_1 12 rfl rfl)
theorem dX3_goDay_35 : decode cX3_goDay 35 = .ok (.iload_n 1, 1) := dk_27 (dk_at dksX3_goDay_1 13 rfl rfl)
theorem dX3_goDay_36 : decode cX3_goDay 36 = .ok (.invokevirtual 140, 3) := dk_182 0 140 (dk_at dksX3_goDay_1 14 rfl rfl)
theorem dX3_goDay_39 : decode cX3_goDay 39 = .ok (.invokevirtual 104, 3) := dk_182 0 104 (dk_at dksX3_goDay_1 17 rfl rfl)
theorem dX3_goDay_42 : decode cX3_goDay 42 = .ok (.iinc 1 1, 3) := dk_132 1 1 (dk_at dksX3_goDay_1 20 rfl rfl)
theorem dX3_goDay_45 : decode cX3_goDay 45 = .ok (.goto (-25), 3) := dk_167 255 231 (dk_at dksX3_goDay_2 0 rfl rfl)
theorem dX3_goDay_48 : decode cX3_goDay 48 = .ok (.iconst 0, 1) := dk_3 (dk_at dksX3_goDay_2 3 rfl rfl)
theorem dX3_goDay_49 : decode cX3_goDay 49 = .ok (.istore_n 1, 1) := dk_60 (dk_at dksX3_goDay_2 4 rfl rfl)
theorem dX3_goDay_50 : decode cX3_goDay 50 = .ok (.iload_n 1, 1) := dk_27 (dk_at dksX3_goDay_2 5 rfl rfl)
theorem dX3_goDay_51 : decode cX3_goDay 51 = .ok (.aload_n 0, 1) := dk_42 (dk_at dksX3_goDay_2 6 rfl rfl)
theorem dX3_goDay_52 : decode cX3_goDay 52 = .ok (.getfield 9, 3) := dk_180 0 9 (dk_at dksX3_goDay_2 7 rfl rfl)
theorem dX3_goDay_55 : decode cX3_goDay 55 = .ok (.bipush 12, 2) := dk_16 12 (dk_at dksX3_goDay_2 10 rfl rfl)
theorem dX3_goDay_57 : decode cX3_goDay 57 = .ok (.iaload, 1) := dk_46 (dk_at dksX3_goDay_2 12 rfl rfl)
theorem dX3_goDay_58 : decode cX3_goDay 58 = .ok (.if_icmp .ge 14, 3) := dk_162 0 14 (dk_at dksX3_goDay_2 13 rfl rfl)
theorem dX3_goDay_61 : decode cX3_goDay 61 = .ok (.aload_n 0, 1) := dk_42 (dk_at dksX3_goDay_2 16 rfl rfl)
theorem dX3_goDay_62 : decode cX3_goDay 62 = .ok (.iload_n 1, 1) := dk_27 (dk_at dksX3_goDay_2 17 rfl rfl)
theorem dX3_goDay_63 : decode cX3_goDay 63 = .ok (.invokevirtual 204, 3) := dk_182 0 204 (dk_at dksX3_goDay_2 18 rfl rfl)
theorem dX3_goDay_66 : decode cX3_goDay 66 = .ok (.iinc 1 1, 3) := dk_132 1 1 (dk_at dksX3_goDay_2 21 rfl rfl)
theorem dX3_goDay_69 : decode cX3_goDay 69 = .ok (.goto (-19), 3) := dk_167 255 237 (dk_at dksX3_goDay_3 0 rfl rfl)
theorem dX3_goDay_72 : decode cX3_goDay 72 = .ok (.aload_n 0, 1) := dk_42 (dk_at dksX3_goDay_3 3 rfl rfl)
theorem dX3_goDay_73 : decode cX3_goDay 73 = .ok (.invokevirtual 207, 3) := dk_182 0 207 (dk_at dksX3_goDay_3 4 rfl rfl)
theorem dX3_goDay_76 : decode cX3_goDay 76 = .ok (.aload_n 0, 1) := dk_42 (dk_at dksX3_goDay_3 7 rfl rfl)
theorem dX3_goDay_77 : decode cX3_goDay 77 = .ok (.invokevirtual 210, 3) := dk_182 0 210 (dk_at dksX3_goDay_3 8 rfl rfl)
theorem dX3_goDay_80 : decode cX3_goDay 80 = .ok (.aload_n 0, 1) := dk_42 (dk_at dksX3_goDay_3 11 rfl rfl)
theorem dX3_goDay_81 : decode cX3_goDay 81 = .ok (.invokevirtual 213, 3) := dk_182 0 213 (dk_at dksX3_goDay_3 12 rfl rfl)
theorem dX3_goDay_84 : decode cX3_goDay 84 = .ok (.bipush 12, 2) := dk_16 12 (dk_at dksX3_goDay_3 15 rfl rfl)
theorem dX3_goDay_86 : decode cX3_goDay 86 = .ok (.if_icmp .gt 7, 3) := dk_163 0 7 (dk_at dksX3_goDay_3 17 rfl rfl)
theorem dX3_goDay_89 : decode cX3_goDay 89 = .ok (.iconst 0, 1) := dk_3 (dk_at dksX3_goDay_3 20 rfl rfl)
theorem dX3_goDay_90 : decode cX3_goDay 90 = .ok (.goto 23, 3) := dk_167 0 23 (dk_at dksX3_goDay_3 21 rfl rfl)
theorem dX3_goDay_93 : decode cX3_goDay 93 = .ok (.aload_n 0, 1) := dk_42 (dk_at dksX3_goDay_4 0 rfl rfl)
theorem dX3_goDay_94 : decode cX3_goDay 94 = .ok (.getfield 9, 3) := dk_180 0 9 (dk_at dksX3_goDay_4 1 rfl rfl)
theorem dX3_goDay_97 : decode cX3_goDay 97 = .ok (.iconst 2, 1) := dk_5 (dk_at dksX3_goDay_4 4 rfl rfl)
theorem dX3_goDay_98 : decode cX3_goDay 98 = .ok (.iaload, 1) := dk_46 (dk_at dksX3_goDay_4 5 rfl rfl)
theorem dX3_goDay_99 : decode cX3_goDay 99 = .ok (.iconst 3, 1) := dk_6 (dk_at dksX3_goDay_4 6 rfl rfl)
theorem dX3_goDay_100 : decode cX3_goDay 100 = .ok (.if_icmp .ge 12, 3) := dk_162 0 12 (dk_at dksX3_goDay_4 7 rfl rfl)
theorem dX3_goDay_103 : decode cX3_goDay 103 = .ok (.aload_n 0, 1) := dk_42 (dk_at dksX3_goDay_4 10 rfl rfl)
theorem dX3_goDay_104 : decode cX3_goDay 104 = .ok (.getfield 9, 3) := dk_180 0 9 (dk_at dksX3_goDay_4 11 rfl rfl)
theorem dX3_goDay_107 : decode cX3_goDay 107 = .ok (.iconst 2, 1) := dk_5 (dk_at dksX3_goDay_4 14 rfl rfl)
theorem dX3_goDay_108 : decode cX3_goDay 108 = .ok (.iaload, 1) := dk_46 (dk_at dksX3_goDay_4 15 rfl rfl)
theorem dX3_goDay_109 : decode cX3_goDay 109 = .ok (.goto 4, 3) := dk_167 0 4 (dk_at dksX3_goDay_4 16 rfl rfl)
theorem dX3_goDay_112 : decode cX3_goDay 112 = .ok (.iconst 3, 1) := dk_6 (dk_at dksX3_goDay_4 19 rfl rfl)
theorem dX3_goDay_113 : decode cX3_goDay 113 = .ok (.istore_n 1, 1) := dk_60 (dk_at dksX3_goDay_4 20 rfl rfl)
theorem dX3_goDay_114 : decode cX3_goDay 114 = .ok (.aload_n 0, 1) := dk_42 (dk_at dksX3_goDay_4 21 rfl rfl)
theorem dX3_goDay_115 : decode cX3_goDay 115 = .ok (.getfield 9, 3) := dk_180 0 9 (dk_at dksX3_goDay_5 0 rfl rfl)
theorem dX3_goDay_118 : decode cX3_goDay 118 = .ok (.iconst 2, 1) := dk_5 (dk_at dksX3_goDay_5 3 rfl rfl)
theorem dX3_goDay_119 : decode cX3_goDay 119 = .ok (.dup2, 1) := dk_92 (dk_at dksX3_goDay_5 4 rfl rfl)
theorem dX3_goDay_120 : decode cX3_goDay 120 = .ok (.iaload, 1) := dk_46 (dk_at dksX3_goDay_5 5 rfl rfl)
theorem dX3_goDay_121 : decode cX3_goDay 121 = .ok (.iload_n 1, 1) := dk_27 (dk_at dksX3_goDay_5 6 rfl rfl)
theorem dX3_goDay_122 : decode cX3_goDay 122 = .ok (.isub, 1) := dk_100 (dk_at dksX3_goDay_5 7 rfl rfl)
theorem dX3_goDay_123 : decode cX3_goDay 123 = .ok (.iastore, 1) := dk_79 (dk_at dksX3_goDay_5 8 rfl rfl)
theorem dX3_goDay_124 : decode cX3_goDay 124 = .ok (.aload_n 0, 1) := dk_42 (dk_at dksX3_goDay_5 9 rfl rfl)
theorem dX3_goDay_125 : decode cX3_goDay 125 = .ok (.getfield 9, 3) := dk_180 0 9 (dk_at dksX3_goDay_5 10 rfl rfl)
theorem dX3_goDay_128 : decode cX3_goDay 128 = .ok (.bipush 6, 2) := dk_16 6 (dk_at dksX3_goDay_5 13 rfl rfl)
theorem dX3_goDay_130 : decode cX3_goDay 130 = .ok (.dup2, 1) := dk_92 (dk_at dksX3_goDay_5 15 rfl rfl)
theorem dX3_goDay_131 : decode cX3_goDay 131 = .ok (.iaload, 1) := dk_46 (dk_at dksX3_goDay_5 16 rfl rfl)
theorem dX3_goDay_132 : decode cX3_goDay 132 = .ok (.iload_n 1, 1) := dk_27 (dk_at dksX3_goDay_5 17 rfl rfl)
theorem dX3_goDay_133 : decode cX3_goDay 133 = .ok (.iadd, 1) := dk_96 (dk_at dksX3_goDay_5 18 rfl rfl)
theorem dX3_goDay_134 : decode cX3_goDay 134 = .ok (.iastore, 1) := dk_79 (dk_at dksX3_goDay_5 19 rfl rfl)
theorem dX3_goDay_135 : decode cX3_goDay 135 = .ok (.iconst 0, 1) := dk_3 (dk_at dksX3_goDay_5 20 rfl rfl)
theorem dX3_goDay_136 : decode cX3_goDay 136 = .ok (.istore_n 2, 1) := dk_61 (dk_at dksX3_goDay_5 21 rfl rfl)
theorem dX3_goDay_137 : decode cX3_goDay 137 = .ok (.iload_n 2, 1) := dk_28 (dk_at dksX3_goDay_5 22 rfl rfl)
theorem dX3_goDay_138 : decode cX3_goDay 138 = .ok (.aload_n 0, 1) := dk_42 (dk_at dksX3_goDay_5 23 rfl rfl)
theorem dX3_goDay_139 : decode cX3_goDay 139 = .ok (.getfield 9, 3) := dk_180 0 9 (dk_at dksX3_goDay_6 0 rfl rfl)
theorem dX3_goDay_142 : decode cX3_goDay 142 = .ok (.bipush 11, 2) := dk_16 11 (dk_at dksX3_goDay_6 3 rfl rfl)
theorem dX3_goDay_144 : decode cX3_goDay 144 = .ok (.iaload, 1) := dk_46 (dk_at dksX3_goDay_6 5 rfl rfl)
theorem dX3_goDay_145 : decode cX3_goDay 145 = .ok (.if_icmp .ge 24, 3) := dk_162 0 24 (dk_at dksX3_goDay_6 6 rfl rfl)
theorem dX3_goDay_148 : decode cX3_goDay 148 = .ok (.aload_n 0, 1) := dk_42 (dk_at dksX3_goDay_6 9 rfl rfl)
theorem dX3_goDay_149 : decode cX3_goDay 149 = .ok (.iload_n 2, 1) := dk_28 (dk_at dksX3_goDay_6 10 rfl rfl)
theorem dX3_goDay_150 : decode cX3_goDay 150 = .ok (.iconst 1, 1) := dk_4 (dk_at dksX3_goDay_6 11 rfl rfl)
theorem dX3_goDay_151 : decode cX3_goDay 151 = .ok (.bipush 6, 2) := dk_16 6 (dk_at dksX3_goDay_6 12 rfl rfl)
theorem dX3_goDay_153 : decode cX3_goDay 153 = .ok (.aload_n 0, 1) := dk_42 (dk_at dksX3_goDay_6 14 rfl rfl)
theorem dX3_goDay_154 : decode cX3_goDay 154 = .ok (.iload_n 2, 1) := dk_28 (dk_at dksX3_goDay_6 15 rfl rfl)
theorem dX3_goDay_155 : decode cX3_goDay 155 = .ok (.iconst 1, 1) := dk_4 (dk_at dksX3_goDay_6 16 rfl rfl)
theorem dX3_goDay_156 : decode cX3_goDay 156 = .ok (.invokevirtual 161, 3) := dk_182 0 161 (dk_at dksX3_goDay_6 17 rfl rfl)
theorem dX3_goDay_159 : decode cX3_goDay 159 = .ok (.isub, 1) := dk_100 (dk_at dksX3_goDay_6 20 rfl rfl)
theorem dX3_goDay_160 : decode cX3_goDay 160 = .ok (.invokevirtual 170, 3) := dk_182 0 170 (dk_at dksX3_goDay_6 21 rfl rfl)
theorem dX3_goDay_163 : decode cX3_goDay 163 = .ok (.iinc 2 1, 3) := dk_132 2 1 (dk_at dksX3_goDay_7 0 rfl rfl)
theorem dX3_goDay_166 : decode cX3_goDay 166 = .ok (.goto (-29), 3) := dk_167 255 227 (dk_at dksX3_goDay_7 3 rfl rfl)
theorem dX3_goDay_169 : decode cX3_goDay 169 = .ok (.return_, 1) := dk_177 (dk_at dksX3_goDay_7 6 rfl rfl)
abbrev cX3_grow : ByteArray := prog_14_method_61_code
def yX3_grow : MethodName := ⟨RX3, "grow", "()V"⟩
def dkwX3_grow_3 : List UInt8 := [79, 132, 2, 1, 167, 255, 212, 177]
abbrev dktX3_grow_3 : List UInt8 := dkwX3_grow_3 ++ []
def dkwX3_grow_2 : List UInt8 := [28, 96, 92, 46, 42, 180, 0, 9, 16, 22, 28, 96, 46, 16, 20, 162, 0, 7, 4, 167, 0, 4, 3, 96]
abbrev dktX3_grow_2 : List UInt8 := dkwX3_grow_2 ++ dktX3_grow_3
def dkwX3_grow_1 : List UInt8 := [4, 167, 0, 4, 3, 60, 3, 61, 28, 16, 12, 162, 0, 44, 27, 153, 0, 40, 42, 180, 0, 9, 16, 22]
abbrev dktX3_grow_1 : List UInt8 := dkwX3_grow_1 ++ dktX3_grow_2
def dkwX3_grow_0 : List UInt8 := [42, 182, 0, 185, 5, 16, 8, 184, 0, 68, 153, 0, 18, 42, 180, 0, 9, 3, 46, 6, 112, 154, 0, 7]
abbrev dktX3_grow_0 : List UInt8 := dkwX3_grow_0 ++ dktX3_grow_1
theorem dksX3_grow_0 : cX3_grow.data.toList.drop 0 = dktX3_grow_0 := by decide +kernel
theorem dksX3_grow_1 : cX3_grow.data.toList.drop 24 = dktX3_grow_1 := dk_seg dksX3_grow_0 24 rfl rfl
theorem dksX3_grow_2 : cX3_grow.data.toList.drop 48 = dktX3_grow_2 := dk_seg dksX3_grow_1 24 rfl rfl
theorem dksX3_grow_3 : cX3_grow.data.toList.drop 72 = dktX3_grow_3 := dk_seg dksX3_grow_2 24 rfl rfl
theorem dX3_grow_0 : decode cX3_grow 0 = .ok (.aload_n 0, 1) := dk_42 (dk_at dksX3_grow_0 0 rfl rfl)
theorem dX3_grow_1 : decode cX3_grow 1 = .ok (.invokevirtual 185, 3) := dk_182 0 185 (dk_at dksX3_grow_0 1 rfl rfl)
theorem dX3_grow_4 : decode cX3_grow 4 = .ok (.iconst 2, 1) := dk_5 (dk_at dksX3_grow_0 4 rfl rfl)
theorem dX3_grow_5 : decode cX3_grow 5 = .ok (.bipush 8, 2) := dk_16 8 (dk_at dksX3_grow_0 5 rfl rfl)
theorem dX3_grow_7 : decode cX3_grow 7 = .ok (.invokestatic 68, 3) := dk_184 0 68 (dk_at dksX3_grow_0 7 rfl rfl)
theorem dX3_grow_10 : decode cX3_grow 10 = .ok (.ifCond .eq 18, 3) := dk_153 0 18 (dk_at dksX3_grow_0 10 rfl rfl)
theorem dX3_grow_13 : decode cX3_grow 13 = .ok (.aload_n 0, 1) := dk_42 (dk_at dksX3_grow_0 13 rfl rfl)
theorem dX3_grow_14 : decode cX3_grow 14 = .ok (.getfield 9, 3) := dk_180 0 9 (dk_at dksX3_grow_0 14 rfl rfl)
theorem dX3_grow_17 : decode cX3_grow 17 = .ok (.iconst 0, 1) := dk_3 (dk_at dksX3_grow_0 17 rfl rfl)
theorem dX3_grow_18 : decode cX3_grow 18 = .ok (.iaload, 1) := dk_46 (dk_at dksX3_grow_0 18 rfl rfl)
theorem dX3_grow_19 : decode cX3_grow 19 = .ok (.iconst 3, 1) := dk_6 (dk_at dksX3_grow_0 19 rfl rfl)
theorem dX3_grow_20 : decode cX3_grow 20 = .ok (.irem, 1) := dk_112 (dk_at dksX3_grow_0 20 rfl rfl)
theorem dX3_grow_21 : decode cX3_grow 21 = .ok (.ifCond .ne 7, 3) := dk_154 0 7 (dk_at dksX3_grow_0 21 rfl rfl)
theorem dX3_grow_24 : decode cX3_grow 24 = .ok (.iconst 1, 1) := dk_4 (dk_at dksX3_grow_1 0 rfl rfl)
theorem dX3_grow_25 : decode cX3_grow 25 = .ok (.goto 4, 3) := dk_167 0 4 (dk_at dksX3_grow_1 1 rfl rfl)
theorem dX3_grow_28 : decode cX3_grow 28 = .ok (.iconst 0, 1) := dk_3 (dk_at dksX3_grow_1 4 rfl rfl)
theorem dX3_grow_29 : decode cX3_grow 29 = .ok (.istore_n 1, 1) := dk_60 (dk_at dksX3_grow_1 5 rfl rfl)
theorem dX3_grow_30 : decode cX3_grow 30 = .ok (.iconst 0, 1) := dk_3 (dk_at dksX3_grow_1 6 rfl rfl)
theorem dX3_grow_31 : decode cX3_grow 31 = .ok (.istore_n 2, 1) := dk_61 (dk_at dksX3_grow_1 7 rfl rfl)
theorem dX3_grow_32 : decode cX3_grow 32 = .ok (.iload_n 2, 1) := dk_28 (dk_at dksX3_grow_1 8 rfl rfl)
theorem dX3_grow_33 : decode cX3_grow 33 = .ok (.bipush 12, 2) := dk_16 12 (dk_at dksX3_grow_1 9 rfl rfl)
theorem dX3_grow_35 : decode cX3_grow 35 = .ok (.if_icmp .ge 44, 3) := dk_162 0 44 (dk_at dksX3_grow_1 11 rfl rfl)
theorem dX3_grow_38 : decode cX3_grow 38 = .ok (.iload_n 1, 1) := dk_27 (dk_at dksX3_grow_1 14 rfl rfl)
theorem dX3_grow_39 : decode cX3_grow 39 = .ok (.ifCond .eq 40, 3) := dk_153 0 40 (dk_at dksX3_grow_1 15 rfl rfl)
theorem dX3_grow_42 : decode cX3_grow 42 = .ok (.aload_n 0, 1) := dk_42 (dk_at dksX3_grow_1 18 rfl rfl)
theorem dX3_grow_43 : decode cX3_grow 43 = .ok (.getfield 9, 3) := dk_180 0 9 (dk_at dksX3_grow_1 19 rfl rfl)
theorem dX3_grow_46 : decode cX3_grow 46 = .ok (.bipush 22, 2) := dk_16 22 (dk_at dksX3_grow_1 22 rfl rfl)
theorem dX3_grow_48 : decode cX3_grow 48 = .ok (.iload_n 2, 1) := dk_28 (dk_at dksX3_grow_2 0 rfl rfl)
theorem dX3_grow_49 : decode cX3_grow 49 = .ok (.iadd, 1) := dk_96 (dk_at dksX3_grow_2 1 rfl rfl)
theorem dX3_grow_50 : decode cX3_grow 50 = .ok (.dup2, 1) := dk_92 (dk_at dksX3_grow_2 2 rfl rfl)
theorem dX3_grow_51 : decode cX3_grow 51 = .ok (.iaload, 1) := dk_46 (dk_at dksX3_grow_2 3 rfl rfl)
theorem dX3_grow_52 : decode cX3_grow 52 = .ok (.aload_n 0, 1) := dk_42 (dk_at dksX3_grow_2 4 rfl rfl)
theorem dX3_grow_53 : decode cX3_grow 53 = .ok (.getfield 9, 3) := dk_180 0 9 (dk_at dksX3_grow_2 5 rfl rfl)
theorem dX3_grow_56 : decode cX3_grow 56 = .ok (.bipush 22, 2) := dk_16 22 (dk_at dksX3_grow_2 8 rfl rfl)
theorem dX3_grow_58 : decode cX3_grow 58 = .ok (.iload_n 2, 1) := dk_28 (dk_at dksX3_grow_2 10 rfl rfl)
theorem dX3_grow_59 : decode cX3_grow 59 = .ok (.iadd, 1) := dk_96 (dk_at dksX3_grow_2 11 rfl rfl)
theorem dX3_grow_60 : decode cX3_grow 60 = .ok (.iaload, 1) := dk_46 (dk_at dksX3_grow_2 12 rfl rfl)
theorem dX3_grow_61 : decode cX3_grow 61 = .ok (.bipush 20, 2) := dk_16 20 (dk_at dksX3_grow_2 13 rfl rfl)
theorem dX3_grow_63 : decode cX3_grow 63 = .ok (.if_icmp .ge 7, 3) := dk_162 0 7 (dk_at dksX3_grow_2 15 rfl rfl)
theorem dX3_grow_66 : decode cX3_grow 66 = .ok (.iconst 1, 1) := dk_4 (dk_at dksX3_grow_2 18 rfl rfl)
theorem dX3_grow_67 : decode cX3_grow 67 = .ok (.goto 4, 3) := dk_167 0 4 (dk_at dksX3_grow_2 19 rfl rfl)
theorem dX3_grow_70 : decode cX3_grow 70 = .ok (.iconst 0, 1) := dk_3 (dk_at dksX3_grow_2 22 rfl rfl)
theorem dX3_grow_71 : decode cX3_grow 71 = .ok (.iadd, 1) := dk_96 (dk_at dksX3_grow_2 23 rfl rfl)
theorem dX3_grow_72 : decode cX3_grow 72 = .ok (.iastore, 1) := dk_79 (dk_at dksX3_grow_3 0 rfl rfl)
theorem dX3_grow_73 : decode cX3_grow 73 = .ok (.iinc 2 1, 3) := dk_132 2 1 (dk_at dksX3_grow_3 1 rfl rfl)
theorem dX3_grow_76 : decode cX3_grow 76 = .ok (.goto (-44), 3) := dk_167 255 212 (dk_at dksX3_grow_3 4 rfl rfl)
theorem dX3_grow_79 : decode cX3_grow 79 = .ok (.return_, 1) := dk_177 (dk_at dksX3_grow_3 7 rfl rfl)
abbrev cX3_month : ByteArray := prog_14_method_60_code
def yX3_month : MethodName := ⟨RX3, "month", "()I"⟩
def dkwX3_month_0 : List UInt8 := [42, 180, 0, 9, 3, 46, 16, 30, 108, 16, 12, 112, 172]
abbrev dktX3_month_0 : List UInt8 := dkwX3_month_0 ++ []
theorem dksX3_month_0 : cX3_month.data.toList.drop 0 = dktX3_month_0 := by decide +kernel
theorem dX3_month_0 : decode cX3_month 0 = .ok (.aload_n 0, 1) := dk_42 (dk_at dksX3_month_0 0 rfl rfl)
theorem dX3_month_1 : decode cX3_month 1 = .ok (.getfield 9, 3) := dk_180 0 9 (dk_at dksX3_month_0 1 rfl rfl)
theorem dX3_month_4 : decode cX3_month 4 = .ok (.iconst 0, 1) := dk_3 (dk_at dksX3_month_0 4 rfl rfl)
theorem dX3_month_5 : decode cX3_month 5 = .ok (.iaload, 1) := dk_46 (dk_at dksX3_month_0 5 rfl rfl)
theorem dX3_month_6 : decode cX3_month 6 = .ok (.bipush 30, 2) := dk_16 30 (dk_at dksX3_month_0 6 rfl rfl)
theorem dX3_month_8 : decode cX3_month 8 = .ok (.idiv, 1) := dk_108 (dk_at dksX3_month_0 8 rfl rfl)
theorem dX3_month_9 : decode cX3_month 9 = .ok (.bipush 12, 2) := dk_16 12 (dk_at dksX3_month_0 9 rfl rfl)
theorem dX3_month_11 : decode cX3_month 11 = .ok (.irem, 1) := dk_112 (dk_at dksX3_month_0 11 rfl rfl)
theorem dX3_month_12 : decode cX3_month 12 = .ok (.ireturn, 1) := dk_172 (dk_at dksX3_month_0 12 rfl rfl)
abbrev cX3_moult : ByteArray := prog_14_method_63_code
def yX3_moult : MethodName := ⟨RX3, "moult", "()V"⟩
def dkwX3_moult_4 : List UInt8 := [5, 182, 0, 98, 5, 96, 182, 0, 104, 132, 1, 1, 167, 255, 153, 177]
abbrev dktX3_moult_4 : List UInt8 := dkwX3_moult_4 ++ []
def dkwX3_moult_3 : List UInt8 := [27, 5, 42, 27, 5, 182, 0, 98, 5, 96, 17, 0, 150, 164, 0, 9, 17, 0, 150, 167, 0, 11, 42, 27]
abbrev dktX3_moult_3 : List UInt8 := dkwX3_moult_3 ++ dktX3_moult_4
def dkwX3_moult_2 : List UInt8 := [182, 0, 101, 154, 0, 54, 42, 182, 0, 185, 16, 10, 162, 0, 11, 42, 182, 0, 185, 4, 163, 0, 37, 42]
abbrev dktX3_moult_2 : List UInt8 := dkwX3_moult_2 ++ dktX3_moult_3
def dkwX3_moult_1 : List UInt8 := [182, 0, 185, 16, 6, 16, 8, 184, 0, 68, 153, 0, 11, 42, 27, 182, 0, 189, 167, 0, 62, 42, 27]
abbrev dktX3_moult_1 : List UInt8 := dkwX3_moult_1 ++ dktX3_moult_2
def dkwX3_moult_0 : List UInt8 := [3, 60, 27, 42, 180, 0, 9, 16, 10, 46, 162, 0, 98, 42, 27, 182, 0, 101, 154, 0, 25, 42]
abbrev dktX3_moult_0 : List UInt8 := dkwX3_moult_0 ++ dktX3_moult_1
theorem dksX3_moult_0 : cX3_moult.data.toList.drop 0 = dktX3_moult_0 := by decide +kernel
theorem dksX3_moult_1 : cX3_moult.data.toList.drop 22 = dktX3_moult_1 := dk_seg dksX3_moult_0 22 rfl rfl
theorem dksX3_moult_2 : cX3_moult.data.toList.drop 45 = dktX3_moult_2 := dk_seg dksX3_moult_1 23 rfl rfl
theorem dksX3_moult_3 : cX3_moult.data.toList.drop 69 = dktX3_moult_3 := dk_seg dksX3_moult_2 24 rfl rfl
theorem dksX3_moult_4 : cX3_moult.data.toList.drop 93 = dktX3_moult_4 := dk_seg dksX3_moult_3 24 rfl rfl
theorem dX3_moult_0 : decode cX3_moult 0 = .ok (.iconst 0, 1) := dk_3 (dk_at dksX3_moult_0 0 rfl rfl)
theorem dX3_moult_1 : decode cX3_moult 1 = .ok (.istore_n 1, 1) := dk_60 (dk_at dksX3_moult_0 1 rfl rfl)
theorem dX3_moult_2 : decode cX3_moult 2 = .ok (.iload_n 1, 1) := dk_27 (dk_at dksX3_moult_0 2 rfl rfl)
theorem dX3_moult_3 : decode cX3_moult 3 = .ok (.aload_n 0, 1) := dk_42 (dk_at dksX3_moult_0 3 rfl rfl)
theorem dX3_moult_4 : decode cX3_moult 4 = .ok (.getfield 9, 3) := dk_180 0 9 (dk_at dksX3_moult_0 4 rfl rfl)
theorem dX3_moult_7 : decode cX3_moult 7 = .ok (.bipush 10, 2) := dk_16 10 (dk_at dksX3_moult_0 7 rfl rfl)
theorem dX3_moult_9 : decode cX3_moult 9 = .ok (.iaload, 1) := dk_46 (dk_at dksX3_moult_0 9 rfl rfl)
theorem dX3_moult_10 : decode cX3_moult 10 = .ok (.if_icmp .ge 98, 3) := dk_162 0 98 (dk_at dksX3_moult_0 10 rfl rfl)
theorem dX3_moult_13 : decode cX3_moult 13 = .ok (.aload_n 0, 1) := dk_42 (dk_at dksX3_moult_0 13 rfl rfl)
theorem dX3_moult_14 : decode cX3_moult 14 = .ok (.iload_n 1, 1) := dk_27 (dk_at dksX3_moult_0 14 rfl rfl)
theorem dX3_moult_15 : decode cX3_moult 15 = .ok (.invokevirtual 101, 3) := dk_182 0 101 (dk_at dksX3_moult_0 15 rfl rfl)
theorem dX3_moult_18 : decode cX3_moult 18 = .ok (.ifCond .ne 25, 3) := dk_154 0 25 (dk_at dksX3_moult_0 18 rfl rfl)
theorem dX3_moult_21 : decode cX3_moult 21 = .ok (.aload_n 0, 1) := dk_42 (dk_at dksX3_moult_0 21 rfl rfl)
theorem dX3_moult_22 : decode cX3_moult 22 = .ok (.invokevirtual 185, 3) := dk_182 0 185 (dk_at dksX3_moult_1 0 rfl rfl)
theorem dX3_moult_25 : decode cX3_moult 25 = .ok (.bipush 6, 2) := dk_16 6 (dk_at dksX3_moult_1 3 rfl rfl)
theorem dX3_moult_27 : decode cX3_moult 27 = .ok (.bipush 8, 2) := dk_16 8 (dk_at dksX3_moult_1 5 rfl rfl)
theorem dX3_moult_29 : decode cX3_moult 29 = .ok (.invokestatic 68, 3) := dk_184 0 68 (dk_at dksX3_moult_1 7 rfl rfl)
theorem dX3_moult_32 : decode cX3_moult 32 = .ok (.ifCond .eq 11, 3) := dk_153 0 11 (dk_at dksX3_moult_1 10 rfl rfl)
theorem dX3_moult_35 : decode cX3_moult 35 = .ok (.aload_n 0, 1) := dk_42 (dk_at dksX3_moult_1 13 rfl rfl)
theorem dX3_moult_36 : decode cX3_moult 36 = .ok (.iload_n 1, 1) := dk_27 (dk_at dksX3_moult_1 14 rfl rfl)
theorem dX3_moult_37 : decode cX3_moult 37 = .ok (.invokevirtual 189, 3) := dk_182 0 189 (dk_at dksX3_moult_1 15 rfl rfl)
theorem dX3_moult_40 : decode cX3_moult 40 = .ok (.goto 62, 3) := dk_167 0 62 (dk_at dksX3_moult_1 18 rfl rfl)
theorem dX3_moult_43 : decode cX3_moult 43 = .ok (.aload_n 0, 1) := dk_42 (dk_at dksX3_moult_1 21 rfl rfl)
theorem dX3_moult_44 : decode cX3_moult 44 = .ok (.iload_n 1, 1) := dk_27 (dk_at dksX3_moult_1 22 rfl rfl)
theorem dX3_moult_45 : decode cX3_moult 45 = .ok (.invokevirtual 101, 3) := dk_182 0 101 (dk_at dksX3_moult_2 0 rfl rfl)
theorem dX3_moult_48 : decode cX3_moult 48 = .ok (.ifCond .ne 54, 3) := dk_154 0 54 (dk_at dksX3_moult_2 3 rfl rfl)
theorem dX3_moult_51 : decode cX3_moult 51 = .ok (.aload_n 0, 1) := dk_42 (dk_at dksX3_moult_2 6 rfl rfl)
theorem dX3_moult_52 : decode cX3_moult 52 = .ok (.invokevirtual 185, 3) := dk_182 0 185 (dk_at dksX3_moult_2 7 rfl rfl)
theorem dX3_moult_55 : decode cX3_moult 55 = .ok (.bipush 10, 2) := dk_16 10 (dk_at dksX3_moult_2 10 rfl rfl)
theorem dX3_moult_57 : decode cX3_moult 57 = .ok (.if_icmp .ge 11, 3) := dk_162 0 11 (dk_at dksX3_moult_2 12 rfl rfl)
theorem dX3_moult_60 : decode cX3_moult 60 = .ok (.aload_n 0, 1) := dk_42 (dk_at dksX3_moult_2 15 rfl rfl)
theorem dX3_moult_61 : decode cX3_moult 61 = .ok (.invokevirtual 185, 3) := dk_182 0 185 (dk_at dksX3_moult_2 16 rfl rfl)
theorem dX3_moult_64 : decode cX3_moult 64 = .ok (.iconst 1, 1) := dk_4 (dk_at dksX3_moult_2 19 rfl rfl)
theorem dX3_moult_65 : decode cX3_moult 65 = .ok (.if_icmp .gt 37, 3) := dk_163 0 37 (dk_at dksX3_moult_2 20 rfl rfl)
theorem dX3_moult_68 : decode cX3_moult 68 = .ok (.aload_n 0, 1) := dk_42 (dk_at dksX3_moult_2 23 rfl rfl)
theorem dX3_moult_69 : decode cX3_moult 69 = .ok (.iload_n 1, 1) := dk_27 (dk_at dksX3_moult_3 0 rfl rfl)
theorem dX3_moult_70 : decode cX3_moult 70 = .ok (.iconst 2, 1) := dk_5 (dk_at dksX3_moult_3 1 rfl rfl)
theorem dX3_moult_71 : decode cX3_moult 71 = .ok (.aload_n 0, 1) := dk_42 (dk_at dksX3_moult_3 2 rfl rfl)
theorem dX3_moult_72 : decode cX3_moult 72 = .ok (.iload_n 1, 1) := dk_27 (dk_at dksX3_moult_3 3 rfl rfl)
theorem dX3_moult_73 : decode cX3_moult 73 = .ok (.iconst 2, 1) := dk_5 (dk_at dksX3_moult_3 4 rfl rfl)
theorem dX3_moult_74 : decode cX3_moult 74 = .ok (.invokevirtual 98, 3) := dk_182 0 98 (dk_at dksX3_moult_3 5 rfl rfl)
theorem dX3_moult_77 : decode cX3_moult 77 = .ok (.iconst 2, 1) := dk_5 (dk_at dksX3_moult_3 8 rfl rfl)
theorem dX3_moult_78 : decode cX3_moult 78 = .ok (.iadd, 1) := dk_96 (dk_at dksX3_moult_3 9 rfl rfl)
theorem dX3_moult_79 : decode cX3_moult 79 = .ok (.sipush 150, 3) := dk_17 0 150 (dk_at dksX3_moult_3 10 rfl rfl)
theorem dX3_moult_82 : decode cX3_moult 82 = .ok (.if_icmp .le 9, 3) := dk_164 0 9 (dk_at dksX3_moult_3 13 rfl rfl)
theorem dX3_moult_85 : decode cX3_moult 85 = .ok (.sipush 150, 3) := dk_17 0 150 (dk_at dksX3_moult_3 16 rfl rfl)
theorem dX3_moult_88 : decode cX3_moult 88 = .ok (.goto 11, 3) := dk_167 0 11 (dk_at dksX3_moult_3 19 rfl rfl)
theorem dX3_moult_91 : decode cX3_moult 91 = .ok (.aload_n 0, 1) := dk_42 (dk_at dksX3_moult_3 22 rfl rfl)
theorem dX3_moult_92 : decode cX3_moult 92 = .ok (.iload_n 1, 1) := dk_27 (dk_at dksX3_moult_3 23 rfl rfl)
theorem dX3_moult_93 : decode cX3_moult 93 = .ok (.iconst 2, 1) := dk_5 (dk_at dksX3_moult_4 0 rfl rfl)
theorem dX3_moult_94 : decode cX3_moult 94 = .ok (.invokevirtual 98, 3) := dk_182 0 98 (dk_at dksX3_moult_4 1 rfl rfl)
theorem dX3_moult_97 : decode cX3_moult 97 = .ok (.iconst 2, 1) := dk_5 (dk_at dksX3_moult_4 4 rfl rfl)
theorem dX3_moult_98 : decode cX3_moult 98 = .ok (.iadd, 1) := dk_96 (dk_at dksX3_moult_4 5 rfl rfl)
theorem dX3_moult_99 : decode cX3_moult 99 = .ok (.invokevirtual 104, 3) := dk_182 0 104 (dk_at dksX3_moult_4 6 rfl rfl)
theorem dX3_moult_102 : decode cX3_moult 102 = .ok (.iinc 1 1, 3) := dk_132 1 1 (dk_at dksX3_moult_4 9 rfl rfl)
theorem dX3_moult_105 : decode cX3_moult 105 = .ok (.goto (-103), 3) := dk_167 255 153 (dk_at dksX3_moult_4 12 rfl rfl)
theorem dX3_moult_108 : decode cX3_moult 108 = .ok (.return_, 1) := dk_177 (dk_at dksX3_moult_4 15 rfl rfl)
abbrev cX3_shedOf : ByteArray := prog_14_method_62_code
def yX3_shedOf : MethodName := ⟨RX3, "shedOf", "(I)V"⟩
def dkwX3_shedOf_3 : List UInt8 := [180, 0, 9, 16, 9, 92, 46, 28, 96, 79, 177]
abbrev dktX3_shedOf_3 : List UInt8 := dkwX3_shedOf_3 ++ []
def dkwX3_shedOf_2 : List UInt8 := [182, 0, 104, 42, 180, 0, 9, 16, 13, 42, 27, 4, 182, 0, 98, 96, 92, 46, 28, 96, 79, 42]
abbrev dktX3_shedOf_2 : List UInt8 := dkwX3_shedOf_2 ++ dktX3_shedOf_3
def dkwX3_shedOf_1 : List UInt8 := [42, 27, 5, 182, 0, 98, 28, 100, 182, 0, 104, 42, 27, 8, 42, 27, 8, 182, 0, 98, 28, 96]
abbrev dktX3_shedOf_1 : List UInt8 := dkwX3_shedOf_1 ++ dktX3_shedOf_2
def dkwX3_shedOf_0 : List UInt8 := [42, 27, 5, 182, 0, 98, 8, 162, 0, 12, 42, 27, 5, 182, 0, 98, 167, 0, 4, 8, 61, 42, 27, 5]
abbrev dktX3_shedOf_0 : List UInt8 := dkwX3_shedOf_0 ++ dktX3_shedOf_1
theorem dksX3_shedOf_0 : cX3_shedOf.data.toList.drop 0 = dktX3_shedOf_0 := by decide +kernel
theorem dksX3_shedOf_1 : cX3_shedOf.data.toList.drop 24 = dktX3_shedOf_1 := dk_seg dksX3_shedOf_0 24 rfl rfl
theorem dksX3_shedOf_2 : cX3_shedOf.data.toList.drop 46 = dktX3_shedOf_2 := dk_seg dksX3_shedOf_1 22 rfl rfl
theorem dksX3_shedOf_3 : cX3_shedOf.data.toList.drop 68 = dktX3_shedOf_3 := dk_seg dksX3_shedOf_2 22 rfl rfl
theorem dX3_shedOf_0 : decode cX3_shedOf 0 = .ok (.aload_n 0, 1) := dk_42 (dk_at dksX3_shedOf_0 0 rfl rfl)
theorem dX3_shedOf_1 : decode cX3_shedOf 1 = .ok (.iload_n 1, 1) := dk_27 (dk_at dksX3_shedOf_0 1 rfl rfl)
theorem dX3_shedOf_2 : decode cX3_shedOf 2 = .ok (.iconst 2, 1) := dk_5 (dk_at dksX3_shedOf_0 2 rfl rfl)
theorem dX3_shedOf_3 : decode cX3_shedOf 3 = .ok (.invokevirtual 98, 3) := dk_182 0 98 (dk_at dksX3_shedOf_0 3 rfl rfl)
theorem dX3_shedOf_6 : decode cX3_shedOf 6 = .ok (.iconst 5, 1) := dk_8 (dk_at dksX3_shedOf_0 6 rfl rfl)
theorem dX3_shedOf_7 : decode cX3_shedOf 7 = .ok (.if_icmp .ge 12, 3) := dk_162 0 12 (dk_at dksX3_shedOf_0 7 rfl rfl)
theorem dX3_shedOf_10 : decode cX3_shedOf 10 = .ok (.aload_n 0, 1) := dk_42 (dk_at dksX3_shedOf_0 10 rfl rfl)
theorem dX3_shedOf_11 : decode cX3_shedOf 11 = .ok (.iload_n 1, 1) := dk_27 (dk_at dksX3_shedOf_0 11 rfl rfl)
theorem dX3_shedOf_12 : decode cX3_shedOf 12 = .ok (.iconst 2, 1) := dk_5 (dk_at dksX3_shedOf_0 12 rfl rfl)
theorem dX3_shedOf_13 : decode cX3_shedOf 13 = .ok (.invokevirtual 98, 3) := dk_182 0 98 (dk_at dksX3_shedOf_0 13 rfl rfl)
theorem dX3_shedOf_16 : decode cX3_shedOf 16 = .ok (.goto 4, 3) := dk_167 0 4 (dk_at dksX3_shedOf_0 16 rfl rfl)
theorem dX3_shedOf_19 : decode cX3_shedOf 19 = .ok (.iconst 5, 1) := dk_8 (dk_at dksX3_shedOf_0 19 rfl rfl)
theorem dX3_shedOf_20 : decode cX3_shedOf 20 = .ok (.istore_n 2, 1) := dk_61 (dk_at dksX3_shedOf_0 20 rfl rfl)
theorem dX3_shedOf_21 : decode cX3_shedOf 21 = .ok (.aload_n 0, 1) := dk_42 (dk_at dksX3_shedOf_0 21 rfl rfl)
theorem dX3_shedOf_22 : decode cX3_shedOf 22 = .ok (.iload_n 1, 1) := dk_27 (dk_at dksX3_shedOf_0 22 rfl rfl)
theorem dX3_shedOf_23 : decode cX3_shedOf 23 = .ok (.iconst 2, 1) := dk_5 (dk_at dksX3_shedOf_0 23 rfl rfl)
theorem dX3_shedOf_24 : decode cX3_shedOf 24 = .ok (.aload_n 0, 1) := dk_42 (dk_at dksX3_shedOf_1 0 rfl rfl)
theorem dX3_shedOf_25 : decode cX3_shedOf 25 = .ok (.iload_n 1, 1) := dk_27 (dk_at dksX3_shedOf_1 1 rfl rfl)
theorem dX3_shedOf_26 : decode cX3_shedOf 26 = .ok (.iconst 2, 1) := dk_5 (dk_at dksX3_shedOf_1 2 rfl rfl)
theorem dX3_shedOf_27 : decode cX3_shedOf 27 = .ok (.invokevirtual 98, 3) := dk_182 0 98 (dk_at dksX3_shedOf_1 3 rfl rfl)
theorem dX3_shedOf_30 : decode cX3_shedOf 30 = .ok (.iload_n 2, 1) := dk_28 (dk_at dksX3_shedOf_1 6 rfl rfl)
theorem dX3_shedOf_31 : decode cX3_shedOf 31 = .ok (.isub, 1) := dk_100 (dk_at dksX3_shedOf_1 7 rfl rfl)
theorem dX3_shedOf_32 : decode cX3_shedOf 32 = .ok (.invokevirtual 104, 3) := dk_182 0 104 (dk_at dksX3_shedOf_1 8 rfl rfl)
theorem dX3_shedOf_35 : decode cX3_shedOf 35 = .ok (.aload_n 0, 1) := dk_42 (dk_at dksX3_shedOf_1 11 rfl rfl)
theorem dX3_shedOf_36 : decode cX3_shedOf 36 = .ok (.iload_n 1, 1) := dk_27 (dk_at dksX3_shedOf_1 12 rfl rfl)
theorem dX3_shedOf_37 : decode cX3_shedOf 37 = .ok (.iconst 5, 1) := dk_8 (dk_at dksX3_shedOf_1 13 rfl rfl)
theorem dX3_shedOf_38 : decode cX3_shedOf 38 = .ok (.aload_n 0, 1) := dk_42 (dk_at dksX3_shedOf_1 14 rfl rfl)
theorem dX3_shedOf_39 : decode cX3_shedOf 39 = .ok (.iload_n 1, 1) := dk_27 (dk_at dksX3_shedOf_1 15 rfl rfl)
theorem dX3_shedOf_40 : decode cX3_shedOf 40 = .ok (.iconst 5, 1) := dk_8 (dk_at dksX3_shedOf_1 16 rfl rfl)
theorem dX3_shedOf_41 : decode cX3_shedOf 41 = .ok (.invokevirtual 98, 3) := dk_182 0 98 (dk_at dksX3_shedOf_1 17 rfl rfl)
theorem dX3_shedOf_44 : decode cX3_shedOf 44 = .ok (.iload_n 2, 1) := dk_28 (dk_at dksX3_shedOf_1 20 rfl rfl)
theorem dX3_shedOf_45 : decode cX3_shedOf 45 = .ok (.iadd, 1) := dk_96 (dk_at dksX3_shedOf_1 21 rfl rfl)
theorem dX3_shedOf_46 : decode cX3_shedOf 46 = .ok (.invokevirtual 104, 3) := dk_182 0 104 (dk_at dksX3_shedOf_2 0 rfl rfl)
theorem dX3_shedOf_49 : decode cX3_shedOf 49 = .ok (.aload_n 0, 1) := dk_42 (dk_at dksX3_shedOf_2 3 rfl rfl)
theorem dX3_shedOf_50 : decode cX3_shedOf 50 = .ok (.getfield 9, 3) := dk_180 0 9 (dk_at dksX3_shedOf_2 4 rfl rfl)
theorem dX3_shedOf_53 : decode cX3_shedOf 53 = .ok (.bipush 13, 2) := dk_16 13 (dk_at dksX3_shedOf_2 7 rfl rfl)
theorem dX3_shedOf_55 : decode cX3_shedOf 55 = .ok (.aload_n 0, 1) := dk_42 (dk_at dksX3_shedOf_2 9 rfl rfl)
theorem dX3_shedOf_56 : decode cX3_shedOf 56 = .ok (.iload_n 1, 1) := dk_27 (dk_at dksX3_shedOf_2 10 rfl rfl)
theorem dX3_shedOf_57 : decode cX3_shedOf 57 = .ok (.iconst 1, 1) := dk_4 (dk_at dksX3_shedOf_2 11 rfl rfl)
theorem dX3_shedOf_58 : decode cX3_shedOf 58 = .ok (.invokevirtual 98, 3) := dk_182 0 98 (dk_at dksX3_shedOf_2 12 rfl rfl)
theorem dX3_shedOf_61 : decode cX3_shedOf 61 = .ok (.iadd, 1) := dk_96 (dk_at dksX3_shedOf_2 15 rfl rfl)
theorem dX3_shedOf_62 : decode cX3_shedOf 62 = .ok (.dup2, 1) := dk_92 (dk_at dksX3_shedOf_2 16 rfl rfl)
theorem dX3_shedOf_63 : decode cX3_shedOf 63 = .ok (.iaload, 1) := dk_46 (dk_at dksX3_shedOf_2 17 rfl rfl)
theorem dX3_shedOf_64 : decode cX3_shedOf 64 = .ok (.iload_n 2, 1) := dk_28 (dk_at dksX3_shedOf_2 18 rfl rfl)
theorem dX3_shedOf_65 : decode cX3_shedOf 65 = .ok (.iadd, 1) := dk_96 (dk_at dksX3_shedOf_2 19 rfl rfl)
theorem dX3_shedOf_66 : decode cX3_shedOf 66 = .ok (.iastore, 1) := dk_79 (dk_at dksX3_shedOf_2 20 rfl rfl)
theorem dX3_shedOf_67 : decode cX3_shedOf 67 = .ok (.aload_n 0, 1) := dk_42 (dk_at dksX3_shedOf_2 21 rfl rfl)
theorem dX3_shedOf_68 : decode cX3_shedOf 68 = .ok (.getfield 9, 3) := dk_180 0 9 (dk_at dksX3_shedOf_3 0 rfl rfl)
theorem dX3_shedOf_71 : decode cX3_shedOf 71 = .ok (.bipush 9, 2) := dk_16 9 (dk_at dksX3_shedOf_3 3 rfl rfl)
theorem dX3_shedOf_73 : decode cX3_shedOf 73 = .ok (.dup2, 1) := dk_92 (dk_at dksX3_shedOf_3 5 rfl rfl)
theorem dX3_shedOf_74 : decode cX3_shedOf 74 = .ok (.iaload, 1) := dk_46 (dk_at dksX3_shedOf_3 6 rfl rfl)
theorem dX3_shedOf_75 : decode cX3_shedOf 75 = .ok (.iload_n 2, 1) := dk_28 (dk_at dksX3_shedOf_3 7 rfl rfl)
theorem dX3_shedOf_76 : decode cX3_shedOf 76 = .ok (.iadd, 1) := dk_96 (dk_at dksX3_shedOf_3 8 rfl rfl)
theorem dX3_shedOf_77 : decode cX3_shedOf 77 = .ok (.iastore, 1) := dk_79 (dk_at dksX3_shedOf_3 9 rfl rfl)
theorem dX3_shedOf_78 : decode cX3_shedOf 78 = .ok (.return_, 1) := dk_177 (dk_at dksX3_shedOf_3 10 rfl rfl)
abbrev cX3_visit : ByteArray := prog_14_method_64_code
def yX3_visit : MethodName := ⟨RX3, "visit", "(I)V"⟩
def dkwX3_visit_3 : List UInt8 := [96, 4, 96, 3, 79, 177]
abbrev dktX3_visit_3 : List UInt8 := dkwX3_visit_3 ++ []
def dkwX3_visit_2 : List UInt8 := [92, 46, 29, 100, 79, 42, 180, 0, 9, 7, 92, 46, 29, 96, 79, 42, 180, 0, 9, 16, 118, 6, 27, 104]
abbrev dktX3_visit_2 : List UInt8 := dkwX3_visit_2 ++ dktX3_visit_3
def dkwX3_visit_1 : List UInt8 := [162, 0, 12, 42, 27, 4, 182, 0, 182, 167, 0, 9, 42, 180, 0, 9, 28, 46, 62, 42, 180, 0, 9, 28]
abbrev dktX3_visit_1 : List UInt8 := dkwX3_visit_1 ++ dktX3_visit_2
def dkwX3_visit_0 : List UInt8 := [16, 13, 42, 27, 3, 182, 0, 182, 96, 61, 42, 27, 4, 182, 0, 182, 42, 180, 0, 9, 28, 46]
abbrev dktX3_visit_0 : List UInt8 := dkwX3_visit_0 ++ dktX3_visit_1
theorem dksX3_visit_0 : cX3_visit.data.toList.drop 0 = dktX3_visit_0 := by decide +kernel
theorem dksX3_visit_1 : cX3_visit.data.toList.drop 22 = dktX3_visit_1 := dk_seg dksX3_visit_0 22 rfl rfl
theorem dksX3_visit_2 : cX3_visit.data.toList.drop 46 = dktX3_visit_2 := dk_seg dksX3_visit_1 24 rfl rfl
theorem dksX3_visit_3 : cX3_visit.data.toList.drop 70 = dktX3_visit_3 := dk_seg dksX3_visit_2 24 rfl rfl
theorem dX3_visit_0 : decode cX3_visit 0 = .ok (.bipush 13, 2) := dk_16 13 (dk_at dksX3_visit_0 0 rfl rfl)
theorem dX3_visit_2 : decode cX3_visit 2 = .ok (.aload_n 0, 1) := dk_42 (dk_at dksX3_visit_0 2 rfl rfl)
theorem dX3_visit_3 : decode cX3_visit 3 = .ok (.iload_n 1, 1) := dk_27 (dk_at dksX3_visit_0 3 rfl rfl)
theorem dX3_visit_4 : decode cX3_visit 4 = .ok (.iconst 0, 1) := dk_3 (dk_at dksX3_visit_0 4 rfl rfl)
theorem dX3_visit_5 : decode cX3_visit 5 = .ok (.invokevirtual 182, 3) := dk_182 0 182 (dk_at dksX3_visit_0 5 rfl rfl)
theorem dX3_visit_8 : decode cX3_visit 8 = .ok (.iadd, 1) := dk_96 (dk_at dksX3_visit_0 8 rfl rfl)
theorem dX3_visit_9 : decode cX3_visit 9 = .ok (.istore_n 2, 1) := dk_61 (dk_at dksX3_visit_0 9 rfl rfl)
theorem dX3_visit_10 : decode cX3_visit 10 = .ok (.aload_n 0, 1) := dk_42 (dk_at dksX3_visit_0 10 rfl rfl)
theorem dX3_visit_11 : decode cX3_visit 11 = .ok (.iload_n 1, 1) := dk_27 (dk_at dksX3_visit_0 11 rfl rfl)
theorem dX3_visit_12 : decode cX3_visit 12 = .ok (.iconst 1, 1) := dk_4 (dk_at dksX3_visit_0 12 rfl rfl)
theorem dX3_visit_13 : decode cX3_visit 13 = .ok (.invokevirtual 182, 3) := dk_182 0 182 (dk_at dksX3_visit_0 13 rfl rfl)
theorem dX3_visit_16 : decode cX3_visit 16 = .ok (.aload_n 0, 1) := dk_42 (dk_at dksX3_visit_0 16 rfl rfl)
theorem dX3_visit_17 : decode cX3_visit 17 = .ok (.getfield 9, 3) := dk_180 0 9 (dk_at dksX3_visit_0 17 rfl rfl)
theorem dX3_visit_20 : decode cX3_visit 20 = .ok (.iload_n 2, 1) := dk_28 (dk_at dksX3_visit_0 20 rfl rfl)
theorem dX3_visit_21 : decode cX3_visit 21 = .ok (.iaload, 1) := dk_46 (dk_at dksX3_visit_0 21 rfl rfl)
theorem dX3_visit_22 : decode cX3_visit 22 = .ok (.if_icmp .ge 12, 3) := dk_162 0 12 (dk_at dksX3_visit_1 0 rfl rfl)
theorem dX3_visit_25 : decode cX3_visit 25 = .ok (.aload_n 0, 1) := dk_42 (dk_at dksX3_visit_1 3 rfl rfl)
theorem dX3_visit_26 : decode cX3_visit 26 = .ok (.iload_n 1, 1) := dk_27 (dk_at dksX3_visit_1 4 rfl rfl)
theorem dX3_visit_27 : decode cX3_visit 27 = .ok (.iconst 1, 1) := dk_4 (dk_at dksX3_visit_1 5 rfl rfl)
theorem dX3_visit_28 : decode cX3_visit 28 = .ok (.invokevirtual 182, 3) := dk_182 0 182 (dk_at dksX3_visit_1 6 rfl rfl)
theorem dX3_visit_31 : decode cX3_visit 31 = .ok (.goto 9, 3) := dk_167 0 9 (dk_at dksX3_visit_1 9 rfl rfl)
theorem dX3_visit_34 : decode cX3_visit 34 = .ok (.aload_n 0, 1) := dk_42 (dk_at dksX3_visit_1 12 rfl rfl)
theorem dX3_visit_35 : decode cX3_visit 35 = .ok (.getfield 9, 3) := dk_180 0 9 (dk_at dksX3_visit_1 13 rfl rfl)
theorem dX3_visit_38 : decode cX3_visit 38 = .ok (.iload_n 2, 1) := dk_28 (dk_at dksX3_visit_1 16 rfl rfl)
theorem dX3_visit_39 : decode cX3_visit 39 = .ok (.iaload, 1) := dk_46 (dk_at dksX3_visit_1 17 rfl rfl)
theorem dX3_visit_40 : decode cX3_visit 40 = .ok (.istore_n 3, 1) := dk_62 (dk_at dksX3_visit_1 18 rfl rfl)
theorem dX3_visit_41 : decode cX3_visit 41 = .ok (.aload_n 0, 1) := dk_42 (dk_at dksX3_visit_1 19 rfl rfl)
theorem dX3_visit_42 : decode cX3_visit 42 = .ok (.getfield 9, 3) := dk_180 0 9 (dk_at dksX3_visit_1 20 rfl rfl)
theorem dX3_visit_45 : decode cX3_visit 45 = .ok (.iload_n 2, 1) := dk_28 (dk_at dksX3_visit_1 23 rfl rfl)
theorem dX3_visit_46 : decode cX3_visit 46 = .ok (.dup2, 1) := dk_92 (dk_at dksX3_visit_2 0 rfl rfl)
theorem dX3_visit_47 : decode cX3_visit 47 = .ok (.iaload, 1) := dk_46 (dk_at dksX3_visit_2 1 rfl rfl)
theorem dX3_visit_48 : decode cX3_visit 48 = .ok (.iload_n 3, 1) := dk_29 (dk_at dksX3_visit_2 2 rfl rfl)
theorem dX3_visit_49 : decode cX3_visit 49 = .ok (.isub, 1) := dk_100 (dk_at dksX3_visit_2 3 rfl rfl)
theorem dX3_visit_50 : decode cX3_visit 50 = .ok (.iastore, 1) := dk_79 (dk_at dksX3_visit_2 4 rfl rfl)
theorem dX3_visit_51 : decode cX3_visit 51 = .ok (.aload_n 0, 1) := dk_42 (dk_at dksX3_visit_2 5 rfl rfl)
theorem dX3_visit_52 : decode cX3_visit 52 = .ok (.getfield 9, 3) := dk_180 0 9 (dk_at dksX3_visit_2 6 rfl rfl)
theorem dX3_visit_55 : decode cX3_visit 55 = .ok (.iconst 4, 1) := dk_7 (dk_at dksX3_visit_2 9 rfl rfl)
theorem dX3_visit_56 : decode cX3_visit 56 = .ok (.dup2, 1) := dk_92 (dk_at dksX3_visit_2 10 rfl rfl)
theorem dX3_visit_57 : decode cX3_visit 57 = .ok (.iaload, 1) := dk_46 (dk_at dksX3_visit_2 11 rfl rfl)
theorem dX3_visit_58 : decode cX3_visit 58 = .ok (.iload_n 3, 1) := dk_29 (dk_at dksX3_visit_2 12 rfl rfl)
theorem dX3_visit_59 : decode cX3_visit 59 = .ok (.iadd, 1) := dk_96 (dk_at dksX3_visit_2 13 rfl rfl)
theorem dX3_visit_60 : decode cX3_visit 60 = .ok (.iastore, 1) := dk_79 (dk_at dksX3_visit_2 14 rfl rfl)
theorem dX3_visit_61 : decode cX3_visit 61 = .ok (.aload_n 0, 1) := dk_42 (dk_at dksX3_visit_2 15 rfl rfl)
theorem dX3_visit_62 : decode cX3_visit 62 = .ok (.getfield 9, 3) := dk_180 0 9 (dk_at dksX3_visit_2 16 rfl rfl)
theorem dX3_visit_65 : decode cX3_visit 65 = .ok (.bipush 118, 2) := dk_16 118 (dk_at dksX3_visit_2 19 rfl rfl)
theorem dX3_visit_67 : decode cX3_visit 67 = .ok (.iconst 3, 1) := dk_6 (dk_at dksX3_visit_2 21 rfl rfl)
theorem dX3_visit_68 : decode cX3_visit 68 = .ok (.iload_n 1, 1) := dk_27 (dk_at dksX3_visit_2 22 rfl rfl)
theorem dX3_visit_69 : decode cX3_visit 69 = .ok (.imul, 1) := dk_104 (dk_at dksX3_visit_2 23 rfl rfl)
theorem dX3_visit_70 : decode cX3_visit 70 = .ok (.iadd, 1) := dk_96 (dk_at dksX3_visit_3 0 rfl rfl)
theorem dX3_visit_71 : decode cX3_visit 71 = .ok (.iconst 1, 1) := dk_4 (dk_at dksX3_visit_3 1 rfl rfl)
theorem dX3_visit_72 : decode cX3_visit 72 = .ok (.iadd, 1) := dk_96 (dk_at dksX3_visit_3 2 rfl rfl)
theorem dX3_visit_73 : decode cX3_visit 73 = .ok (.iconst 0, 1) := dk_3 (dk_at dksX3_visit_3 3 rfl rfl)
theorem dX3_visit_74 : decode cX3_visit 74 = .ok (.iastore, 1) := dk_79 (dk_at dksX3_visit_3 4 rfl rfl)
theorem dX3_visit_75 : decode cX3_visit 75 = .ok (.return_, 1) := dk_177 (dk_at dksX3_visit_3 5 rfl rfl)
abbrev cX3_sitAll : ByteArray := prog_14_method_66_code
def yX3_sitAll : MethodName := ⟨RX3, "sitAll", "()V"⟩
def dkwX3_sitAll_2 : List UInt8 := [182, 0, 98, 16, 28, 160, 0, 8, 42, 28, 182, 0, 195, 132, 2, 1, 167, 255, 210, 177]
abbrev dktX3_sitAll_2 : List UInt8 := dkwX3_sitAll_2 ++ []
def dkwX3_sitAll_1 : List UInt8 := [182, 0, 134, 153, 0, 33, 42, 28, 6, 42, 28, 6, 182, 0, 98, 4, 96, 182, 0, 104, 42, 28, 6]
abbrev dktX3_sitAll_1 : List UInt8 := dkwX3_sitAll_1 ++ dktX3_sitAll_2
def dkwX3_sitAll_0 : List UInt8 := [42, 180, 0, 9, 16, 10, 46, 60, 42, 3, 181, 0, 192, 3, 61, 28, 27, 162, 0, 47, 42, 28]
abbrev dktX3_sitAll_0 : List UInt8 := dkwX3_sitAll_0 ++ dktX3_sitAll_1
theorem dksX3_sitAll_0 : cX3_sitAll.data.toList.drop 0 = dktX3_sitAll_0 := by decide +kernel
theorem dksX3_sitAll_1 : cX3_sitAll.data.toList.drop 22 = dktX3_sitAll_1 := dk_seg dksX3_sitAll_0 22 rfl rfl
theorem dksX3_sitAll_2 : cX3_sitAll.data.toList.drop 45 = dktX3_sitAll_2 := dk_seg dksX3_sitAll_1 23 rfl rfl
theorem dX3_sitAll_0 : decode cX3_sitAll 0 = .ok (.aload_n 0, 1) := dk_42 (dk_at dksX3_sitAll_0 0 rfl rfl)
theorem dX3_sitAll_1 : decode cX3_sitAll 1 = .ok (.getfield 9, 3) := dk_180 0 9 (dk_at dksX3_sitAll_0 1 rfl rfl)
theorem dX3_sitAll_4 : decode cX3_sitAll 4 = .ok (.bipush 10, 2) := dk_16 10 (dk_at dksX3_sitAll_0 4 rfl rfl)
theorem dX3_sitAll_6 : decode cX3_sitAll 6 = .ok (.iaload, 1) := dk_46 (dk_at dksX3_sitAll_0 6 rfl rfl)
theorem dX3_sitAll_7 : decode cX3_sitAll 7 = .ok (.istore_n 1, 1) := dk_60 (dk_at dksX3_sitAll_0 7 rfl rfl)
theorem dX3_sitAll_8 : decode cX3_sitAll 8 = .ok (.aload_n 0, 1) := dk_42 (dk_at dksX3_sitAll_0 8 rfl rfl)
theorem dX3_sitAll_9 : decode cX3_sitAll 9 = .ok (.iconst 0, 1) := dk_3 (dk_at dksX3_sitAll_0 9 rfl rfl)
theorem dX3_sitAll_10 : decode cX3_sitAll 10 = .ok (.putfield 192, 3) := dk_181 0 192 (dk_at dksX3_sitAll_0 10 rfl rfl)
theorem dX3_sitAll_13 : decode cX3_sitAll 13 = .ok (.iconst 0, 1) := dk_3 (dk_at dksX3_sitAll_0 13 rfl rfl)
theorem dX3_sitAll_14 : decode cX3_sitAll 14 = .ok (.istore_n 2, 1) := dk_61 (dk_at dksX3_sitAll_0 14 rfl rfl)
theorem dX3_sitAll_15 : decode cX3_sitAll 15 = .ok (.iload_n 2, 1) := dk_28 (dk_at dksX3_sitAll_0 15 rfl rfl)
theorem dX3_sitAll_16 : decode cX3_sitAll 16 = .ok (.iload_n 1, 1) := dk_27 (dk_at dksX3_sitAll_0 16 rfl rfl)
theorem dX3_sitAll_17 : decode cX3_sitAll 17 = .ok (.if_icmp .ge 47, 3) := dk_162 0 47 (dk_at dksX3_sitAll_0 17 rfl rfl)
theorem dX3_sitAll_20 : decode cX3_sitAll 20 = .ok (.aload_n 0, 1) := dk_42 (dk_at dksX3_sitAll_0 20 rfl rfl)
theorem dX3_sitAll_21 : decode cX3_sitAll 21 = .ok (.iload_n 2, 1) := dk_28 (dk_at dksX3_sitAll_0 21 rfl rfl)
theorem dX3_sitAll_22 : decode cX3_sitAll 22 = .ok (.invokevirtual 134, 3) := dk_182 0 134 (dk_at dksX3_sitAll_1 0 rfl rfl)
theorem dX3_sitAll_25 : decode cX3_sitAll 25 = .ok (.ifCond .eq 33, 3) := dk_153 0 33 (dk_at dksX3_sitAll_1 3 rfl rfl)
theorem dX3_sitAll_28 : decode cX3_sitAll 28 = .ok (.aload_n 0, 1) := dk_42 (dk_at dksX3_sitAll_1 6 rfl rfl)
theorem dX3_sitAll_29 : decode cX3_sitAll 29 = .ok (.iload_n 2, 1) := dk_28 (dk_at dksX3_sitAll_1 7 rfl rfl)
theorem dX3_sitAll_30 : decode cX3_sitAll 30 = .ok (.iconst 3, 1) := dk_6 (dk_at dksX3_sitAll_1 8 rfl rfl)
theorem dX3_sitAll_31 : decode cX3_sitAll 31 = .ok (.aload_n 0, 1) := dk_42 (dk_at dksX3_sitAll_1 9 rfl rfl)
theorem dX3_sitAll_32 : decode cX3_sitAll 32 = .ok (.iload_n 2, 1) := dk_28 (dk_at dksX3_sitAll_1 10 rfl rfl)
theorem dX3_sitAll_33 : decode cX3_sitAll 33 = .ok (.iconst 3, 1) := dk_6 (dk_at dksX3_sitAll_1 11 rfl rfl)
theorem dX3_sitAll_34 : decode cX3_sitAll 34 = .ok (.invokevirtual 98, 3) := dk_182 0 98 (dk_at dksX3_sitAll_1 12 rfl rfl)
theorem dX3_sitAll_37 : decode cX3_sitAll 37 = .ok (.iconst 1, 1) := dk_4 (dk_at dksX3_sitAll_1 15 rfl rfl)
theorem dX3_sitAll_38 : decode cX3_sitAll 38 = .ok (.iadd, 1) := dk_96 (dk_at dksX3_sitAll_1 16 rfl rfl)
theorem dX3_sitAll_39 : decode cX3_sitAll 39 = .ok (.invokevirtual 104, 3) := dk_182 0 104 (dk_at dksX3_sitAll_1 17 rfl rfl)
theorem dX3_sitAll_42 : decode cX3_sitAll 42 = .ok (.aload_n 0, 1) := dk_42 (dk_at dksX3_sitAll_1 20 rfl rfl)
theorem dX3_sitAll_43 : decode cX3_sitAll 43 = .ok (.iload_n 2, 1) := dk_28 (dk_at dksX3_sitAll_1 21 rfl rfl)
theorem dX3_sitAll_44 : decode cX3_sitAll 44 = .ok (.iconst 3, 1) := dk_6 (dk_at dksX3_sitAll_1 22 rfl rfl)
theorem dX3_sitAll_45 : decode cX3_sitAll 45 = .ok (.invokevirtual 98, 3) := dk_182 0 98 (dk_at dksX3_sitAll_2 0 rfl rfl)
theorem dX3_sitAll_48 : decode cX3_sitAll 48 = .ok (.bipush 28, 2) := dk_16 28 (dk_at dksX3_sitAll_2 3 rfl rfl)
theorem dX3_sitAll_50 : decode cX3_sitAll 50 = .ok (.if_icmp .ne 8, 3) := dk_160 0 8 (dk_at dksX3_sitAll_2 5 rfl rfl)
theorem dX3_sitAll_53 : decode cX3_sitAll 53 = .ok (.aload_n 0, 1) := dk_42 (dk_at dksX3_sitAll_2 8 rfl rfl)
theorem dX3_sitAll_54 : decode cX3_sitAll 54 = .ok (.iload_n 2, 1) := dk_28 (dk_at dksX3_sitAll_2 9 rfl rfl)
theorem dX3_sitAll_55 : decode cX3_sitAll 55 = .ok (.invokevirtual 195, 3) := dk_182 0 195 (dk_at dksX3_sitAll_2 10 rfl rfl)
theorem dX3_sitAll_58 : decode cX3_sitAll 58 = .ok (.iinc 2 1, 3) := dk_132 2 1 (dk_at dksX3_sitAll_2 13 rfl rfl)
theorem dX3_sitAll_61 : decode cX3_sitAll 61 = .ok (.goto (-46), 3) := dk_167 255 210 (dk_at dksX3_sitAll_2 16 rfl rfl)
theorem dX3_sitAll_64 : decode cX3_sitAll 64 = .ok (.return_, 1) := dk_177 (dk_at dksX3_sitAll_2 19 rfl rfl)
abbrev cX3_hatch : ByteArray := prog_14_method_65_code
def yX3_hatch : MethodName := ⟨RX3, "hatch", "(I)V"⟩
def dkwX3_hatch_4 : List UInt8 := [132, 2, 255, 167, 255, 177, 42, 27, 5, 3, 182, 0, 104, 42, 27, 6, 3, 182, 0, 104, 177]
abbrev dktX3_hatch_4 : List UInt8 := dkwX3_hatch_4 ++ []
def dkwX3_hatch_3 : List UInt8 := [153, 0, 7, 4, 167, 0, 4, 3, 27, 182, 0, 121, 87, 42, 180, 0, 9, 16, 7, 92, 46, 4, 96, 79]
abbrev dktX3_hatch_3 : List UInt8 := dkwX3_hatch_3 ++ dktX3_hatch_4
def dkwX3_hatch_2 : List UInt8 := [167, 0, 4, 3, 62, 42, 29, 153, 0, 7, 3, 167, 0, 4, 4, 42, 27, 4, 182, 0, 98, 3, 29]
abbrev dktX3_hatch_2 : List UInt8 := dkwX3_hatch_2 ++ dktX3_hatch_3
def dkwX3_hatch_1 : List UInt8 := [180, 0, 9, 16, 10, 46, 16, 12, 162, 0, 69, 42, 180, 0, 9, 16, 10, 46, 5, 112, 154, 0, 7, 4]
abbrev dktX3_hatch_1 : List UInt8 := dkwX3_hatch_1 ++ dktX3_hatch_2
def dkwX3_hatch_0 : List UInt8 := [42, 89, 180, 0, 192, 4, 27, 120, 128, 181, 0, 192, 42, 27, 5, 182, 0, 98, 61, 28, 158, 0, 81, 42]
abbrev dktX3_hatch_0 : List UInt8 := dkwX3_hatch_0 ++ dktX3_hatch_1
theorem dksX3_hatch_0 : cX3_hatch.data.toList.drop 0 = dktX3_hatch_0 := by decide +kernel
theorem dksX3_hatch_1 : cX3_hatch.data.toList.drop 24 = dktX3_hatch_1 := dk_seg dksX3_hatch_0 24 rfl rfl
theorem dksX3_hatch_2 : cX3_hatch.data.toList.drop 48 = dktX3_hatch_2 := dk_seg dksX3_hatch_1 24 rfl rfl
theorem dksX3_hatch_3 : cX3_hatch.data.toList.drop 71 = dktX3_hatch_3 := dk_seg dksX3_hatch_2 23 rfl rfl
theorem dksX3_hatch_4 : cX3_hatch.data.toList.drop 95 = dktX3_hatch_4 := dk_seg dksX3_hatch_3 24 rfl rfl
theorem dX3_hatch_0 : decode cX3_hatch 0 = .ok (.aload_n 0, 1) := dk_42 (dk_at dksX3_hatch_0 0 rfl rfl)
theorem dX3_hatch_1 : decode cX3_hatch 1 = .ok (.dup, 1) := dk_89 (dk_at dksX3_hatch_0 1 rfl rfl)
theorem dX3_hatch_2 : decode cX3_hatch 2 = .ok (.getfield 192, 3) := dk_180 0 192 (dk_at dksX3_hatch_0 2 rfl rfl)
theorem dX3_hatch_5 : decode cX3_hatch 5 = .ok (.iconst 1, 1) := dk_4 (dk_at dksX3_hatch_0 5 rfl rfl)
theorem dX3_hatch_6 : decode cX3_hatch 6 = .ok (.iload_n 1, 1) := dk_27 (dk_at dksX3_hatch_0 6 rfl rfl)
theorem dX3_hatch_7 : decode cX3_hatch 7 = .ok (.ishl, 1) := dk_120 (dk_at dksX3_hatch_0 7 rfl rfl)
theorem dX3_hatch_8 : decode cX3_hatch 8 = .ok (.ior, 1) := dk_128 (dk_at dksX3_hatch_0 8 rfl rfl)
theorem dX3_hatch_9 : decode cX3_hatch 9 = .ok (.putfield 192, 3) := dk_181 0 192 (dk_at dksX3_hatch_0 9 rfl rfl)
theorem dX3_hatch_12 : decode cX3_hatch 12 = .ok (.aload_n 0, 1) := dk_42 (dk_at dksX3_hatch_0 12 rfl rfl)
theorem dX3_hatch_13 : decode cX3_hatch 13 = .ok (.iload_n 1, 1) := dk_27 (dk_at dksX3_hatch_0 13 rfl rfl)
theorem dX3_hatch_14 : decode cX3_hatch 14 = .ok (.iconst 2, 1) := dk_5 (dk_at dksX3_hatch_0 14 rfl rfl)
theorem dX3_hatch_15 : decode cX3_hatch 15 = .ok (.invokevirtual 98, 3) := dk_182 0 98 (dk_at dksX3_hatch_0 15 rfl rfl)
theorem dX3_hatch_18 : decode cX3_hatch 18 = .ok (.istore_n 2, 1) := dk_61 (dk_at dksX3_hatch_0 18 rfl rfl)
theorem dX3_hatch_19 : decode cX3_hatch 19 = .ok (.iload_n 2, 1) := dk_28 (dk_at dksX3_hatch_0 19 rfl rfl)
theorem dX3_hatch_20 : decode cX3_hatch 20 = .ok (.ifCond .le 81, 3) := dk_158 0 81 (dk_at dksX3_hatch_0 20 rfl rfl)
theorem dX3_hatch_23 : decode cX3_hatch 23 = .ok (.aload_n 0, 1) := dk_42 (dk_at dksX3_hatch_0 23 rfl rfl)
theorem dX3_hatch_24 : decode cX3_hatch 24 = .ok (.getfield 9, 3) := dk_180 0 9 (dk_at dksX3_hatch_1 0 rfl rfl)
theorem dX3_hatch_27 : decode cX3_hatch 27 = .ok (.bipush 10, 2) := dk_16 10 (dk_at dksX3_hatch_1 3 rfl rfl)
theorem dX3_hatch_29 : decode cX3_hatch 29 = .ok (.iaload, 1) := dk_46 (dk_at dksX3_hatch_1 5 rfl rfl)
theorem dX3_hatch_30 : decode cX3_hatch 30 = .ok (.bipush 12, 2) := dk_16 12 (dk_at dksX3_hatch_1 6 rfl rfl)
theorem dX3_hatch_32 : decode cX3_hatch 32 = .ok (.if_icmp .ge 69, 3) := dk_162 0 69 (dk_at dksX3_hatch_1 8 rfl rfl)
theorem dX3_hatch_35 : decode cX3_hatch 35 = .ok (.aload_n 0, 1) := dk_42 (dk_at dksX3_hatch_1 11 rfl rfl)
theorem dX3_hatch_36 : decode cX3_hatch 36 = .ok (.getfield 9, 3) := dk_180 0 9 (dk_at dksX3_hatch_1 12 rfl rfl)
theorem dX3_hatch_39 : decode cX3_hatch 39 = .ok (.bipush 10, 2) := dk_16 10 (dk_at dksX3_hatch_1 15 rfl rfl)
theorem dX3_hatch_41 : decode cX3_hatch 41 = .ok (.iaload, 1) := dk_46 (dk_at dksX3_hatch_1 17 rfl rfl)
theorem dX3_hatch_42 : decode cX3_hatch 42 = .ok (.iconst 2, 1) := dk_5 (dk_at dksX3_hatch_1 18 rfl rfl)
theorem dX3_hatch_43 : decode cX3_hatch 43 = .ok (.irem, 1) := dk_112 (dk_at dksX3_hatch_1 19 rfl rfl)
theorem dX3_hatch_44 : decode cX3_hatch 44 = .ok (.ifCond .ne 7, 3) := dk_154 0 7 (dk_at dksX3_hatch_1 20 rfl rfl)
theorem dX3_hatch_47 : decode cX3_hatch 47 = .ok (.iconst 1, 1) := dk_4 (dk_at dksX3_hatch_1 23 rfl rfl)
theorem dX3_hatch_48 : decode cX3_hatch 48 = .ok (.goto 4, 3) := dk_167 0 4 (dk_at dksX3_hatch_2 0 rfl rfl)
theorem dX3_hatch_51 : decode cX3_hatch 51 = .ok (.iconst 0, 1) := dk_3 (dk_at dksX3_hatch_2 3 rfl rfl)
theorem dX3_hatch_52 : decode cX3_hatch 52 = .ok (.istore_n 3, 1) := dk_62 (dk_at dksX3_hatch_2 4 rfl rfl)
theorem dX3_hatch_53 : decode cX3_hatch 53 = .ok (.aload_n 0, 1) := dk_42 (dk_at dksX3_hatch_2 5 rfl rfl)
theorem dX3_hatch_54 : decode cX3_hatch 54 = .ok (.iload_n 3, 1) := dk_29 (dk_at dksX3_hatch_2 6 rfl rfl)
theorem dX3_hatch_55 : decode cX3_hatch 55 = .ok (.ifCond .eq 7, 3) := dk_153 0 7 (dk_at dksX3_hatch_2 7 rfl rfl)
theorem dX3_hatch_58 : decode cX3_hatch 58 = .ok (.iconst 0, 1) := dk_3 (dk_at dksX3_hatch_2 10 rfl rfl)
theorem dX3_hatch_59 : decode cX3_hatch 59 = .ok (.goto 4, 3) := dk_167 0 4 (dk_at dksX3_hatch_2 11 rfl rfl)
theorem dX3_hatch_62 : decode cX3_hatch 62 = .ok (.iconst 1, 1) := dk_4 (dk_at dksX3_hatch_2 14 rfl rfl)
theorem dX3_hatch_63 : decode cX3_hatch 63 = .ok (.aload_n 0, 1) := dk_42 (dk_at dksX3_hatch_2 15 rfl rfl)
theorem dX3_hatch_64 : decode cX3_hatch 64 = .ok (.iload_n 1, 1) := dk_27 (dk_at dksX3_hatch_2 16 rfl rfl)
theorem dX3_hatch_65 : decode cX3_hatch 65 = .ok (.iconst 1, 1) := dk_4 (dk_at dksX3_hatch_2 17 rfl rfl)
theorem dX3_hatch_66 : decode cX3_hatch 66 = .ok (.invokevirtual 98, 3) := dk_182 0 98 (dk_at dksX3_hatch_2 18 rfl rfl)
theorem dX3_hatch_69 : decode cX3_hatch 69 = .ok (.iconst 0, 1) := dk_3 (dk_at dksX3_hatch_2 21 rfl rfl)
theorem dX3_hatch_70 : decode cX3_hatch 70 = .ok (.iload_n 3, 1) := dk_29 (dk_at dksX3_hatch_2 22 rfl rfl)
theorem dX3_hatch_71 : decode cX3_hatch 71 = .ok (.ifCond .eq 7, 3) := dk_153 0 7 (dk_at dksX3_hatch_3 0 rfl rfl)
theorem dX3_hatch_74 : decode cX3_hatch 74 = .ok (.iconst 1, 1) := dk_4 (dk_at dksX3_hatch_3 3 rfl rfl)
theorem dX3_hatch_75 : decode cX3_hatch 75 = .ok (.goto 4, 3) := dk_167 0 4 (dk_at dksX3_hatch_3 4 rfl rfl)
theorem dX3_hatch_78 : decode cX3_hatch 78 = .ok (.iconst 0, 1) := dk_3 (dk_at dksX3_hatch_3 7 rfl rfl)
theorem dX3_hatch_79 : decode cX3_hatch 79 = .ok (.iload_n 1, 1) := dk_27 (dk_at dksX3_hatch_3 8 rfl rfl)
theorem dX3_hatch_80 : decode cX3_hatch 80 = .ok (.invokevirtual 121, 3) := dk_182 0 121 (dk_at dksX3_hatch_3 9 rfl rfl)
theorem dX3_hatch_83 : decode cX3_hatch 83 = .ok (.pop, 1) := dk_87 (dk_at dksX3_hatch_3 12 rfl rfl)
theorem dX3_hatch_84 : decode cX3_hatch 84 = .ok (.aload_n 0, 1) := dk_42 (dk_at dksX3_hatch_3 13 rfl rfl)
theorem dX3_hatch_85 : decode cX3_hatch 85 = .ok (.getfield 9, 3) := dk_180 0 9 (dk_at dksX3_hatch_3 14 rfl rfl)
theorem dX3_hatch_88 : decode cX3_hatch 88 = .ok (.bipush 7, 2) := dk_16 7 (dk_at dksX3_hatch_3 17 rfl rfl)
theorem dX3_hatch_90 : decode cX3_hatch 90 = .ok (.dup2, 1) := dk_92 (dk_at dksX3_hatch_3 19 rfl rfl)
theorem dX3_hatch_91 : decode cX3_hatch 91 = .ok (.iaload, 1) := dk_46 (dk_at dksX3_hatch_3 20 rfl rfl)
theorem dX3_hatch_92 : decode cX3_hatch 92 = .ok (.iconst 1, 1) := dk_4 (dk_at dksX3_hatch_3 21 rfl rfl)
theorem dX3_hatch_93 : decode cX3_hatch 93 = .ok (.iadd, 1) := dk_96 (dk_at dksX3_hatch_3 22 rfl rfl)
theorem dX3_hatch_94 : decode cX3_hatch 94 = .ok (.iastore, 1) := dk_79 (dk_at dksX3_hatch_3 23 rfl rfl)
theorem dX3_hatch_95 : decode cX3_hatch 95 = .ok (.iinc 2 (-1), 3) := dk_132 2 255 (dk_at dksX3_hatch_4 0 rfl rfl)
theorem dX3_hatch_98 : decode cX3_hatch 98 = .ok (.goto (-79), 3) := dk_167 255 177 (dk_at dksX3_hatch_4 3 rfl rfl)
theorem dX3_hatch_101 : decode cX3_hatch 101 = .ok (.aload_n 0, 1) := dk_42 (dk_at dksX3_hatch_4 6 rfl rfl)
theorem dX3_hatch_102 : decode cX3_hatch 102 = .ok (.iload_n 1, 1) := dk_27 (dk_at dksX3_hatch_4 7 rfl rfl)
theorem dX3_hatch_103 : decode cX3_hatch 103 = .ok (.iconst 2, 1) := dk_5 (dk_at dksX3_hatch_4 8 rfl rfl)
theorem dX3_hatch_104 : decode cX3_hatch 104 = .ok (.iconst 0, 1) := dk_3 (dk_at dksX3_hatch_4 9 rfl rfl)
theorem dX3_hatch_105 : decode cX3_hatch 105 = .ok (.invokevirtual 104, 3) := dk_182 0 104 (dk_at dksX3_hatch_4 10 rfl rfl)
theorem dX3_hatch_108 : decode cX3_hatch 108 = .ok (.aload_n 0, 1) := dk_42 (dk_at dksX3_hatch_4 13 rfl rfl)
theorem dX3_hatch_109 : decode cX3_hatch 109 = .ok (.iload_n 1, 1) := dk_27 (dk_at dksX3_hatch_4 14 rfl rfl)
theorem dX3_hatch_110 : decode cX3_hatch 110 = .ok (.iconst 3, 1) := dk_6 (dk_at dksX3_hatch_4 15 rfl rfl)
theorem dX3_hatch_111 : decode cX3_hatch 111 = .ok (.iconst 0, 1) := dk_3 (dk_at dksX3_hatch_4 16 rfl rfl)
theorem dX3_hatch_112 : decode cX3_hatch 112 = .ok (.invokevirtual 104, 3) := dk_182 0 104 (dk_at dksX3_hatch_4 17 rfl rfl)
theorem dX3_hatch_115 : decode cX3_hatch 115 = .ok (.return_, 1) := dk_177 (dk_at dksX3_hatch_4 20 rfl rfl)
abbrev cX3_prowl : ByteArray := prog_14_method_67_code
def yX3_prowl : MethodName := ⟨RX3, "prowl", "()V"⟩
def dkwX3_prowl_5 : List UInt8 := [182, 0, 137, 79, 177]
abbrev dktX3_prowl_5 : List UInt8 := dkwX3_prowl_5 ++ []
def dkwX3_prowl_4 : List UInt8 := [180, 0, 9, 16, 8, 92, 46, 4, 96, 79, 42, 180, 0, 9, 4, 42, 42, 180, 0, 9, 4, 46, 16, 9]
abbrev dktX3_prowl_4 : List UInt8 := dkwX3_prowl_4 ++ dktX3_prowl_5
def dkwX3_prowl_3 : List UInt8 := [27, 5, 182, 0, 98, 154, 0, 7, 3, 167, 0, 9, 42, 27, 6, 182, 0, 98, 182, 0, 104, 42]
abbrev dktX3_prowl_3 : List UInt8 := dkwX3_prowl_3 ++ dktX3_prowl_4
def dkwX3_prowl_2 : List UInt8 := [16, 10, 46, 162, 0, 53, 42, 27, 5, 42, 27, 5, 182, 0, 98, 4, 100, 182, 0, 104, 42, 27, 6, 42]
abbrev dktX3_prowl_2 : List UInt8 := dkwX3_prowl_2 ++ dktX3_prowl_3
def dkwX3_prowl_1 : List UInt8 := [182, 0, 98, 42, 180, 0, 9, 4, 46, 159, 0, 9, 132, 1, 1, 167, 255, 219, 27, 42, 180, 0, 9]
abbrev dktX3_prowl_1 : List UInt8 := dkwX3_prowl_1 ++ dktX3_prowl_2
def dkwX3_prowl_0 : List UInt8 := [3, 60, 27, 42, 180, 0, 9, 16, 10, 46, 162, 0, 32, 42, 27, 182, 0, 134, 153, 0, 18, 42, 27, 4]
abbrev dktX3_prowl_0 : List UInt8 := dkwX3_prowl_0 ++ dktX3_prowl_1
theorem dksX3_prowl_0 : cX3_prowl.data.toList.drop 0 = dktX3_prowl_0 := by decide +kernel
theorem dksX3_prowl_1 : cX3_prowl.data.toList.drop 24 = dktX3_prowl_1 := dk_seg dksX3_prowl_0 24 rfl rfl
theorem dksX3_prowl_2 : cX3_prowl.data.toList.drop 47 = dktX3_prowl_2 := dk_seg dksX3_prowl_1 23 rfl rfl
theorem dksX3_prowl_3 : cX3_prowl.data.toList.drop 71 = dktX3_prowl_3 := dk_seg dksX3_prowl_2 24 rfl rfl
theorem dksX3_prowl_4 : cX3_prowl.data.toList.drop 93 = dktX3_prowl_4 := dk_seg dksX3_prowl_3 22 rfl rfl
theorem dksX3_prowl_5 : cX3_prowl.data.toList.drop 117 = dktX3_prowl_5 := dk_seg dksX3_prowl_4 24 rfl rfl
theorem dX3_prowl_0 : decode cX3_prowl 0 = .ok (.iconst 0, 1) := dk_3 (dk_at dksX3_prowl_0 0 rfl rfl)
theorem dX3_prowl_1 : decode cX3_prowl 1 = .ok (.istore_n 1, 1) := dk_60 (dk_at dksX3_prowl_0 1 rfl rfl)
theorem dX3_prowl_2 : decode cX3_prowl 2 = .ok (.iload_n 1, 1) := dk_27 (dk_at dksX3_prowl_0 2 rfl rfl)
theorem dX3_prowl_3 : decode cX3_prowl 3 = .ok (.aload_n 0, 1) := dk_42 (dk_at dksX3_prowl_0 3 rfl rfl)
theorem dX3_prowl_4 : decode cX3_prowl 4 = .ok (.getfield 9, 3) := dk_180 0 9 (dk_at dksX3_prowl_0 4 rfl rfl)
theorem dX3_prowl_7 : decode cX3_prowl 7 = .ok (.bipush 10, 2) := dk_16 10 (dk_at dksX3_prowl_0 7 rfl rfl)
theorem dX3_prowl_9 : decode cX3_prowl 9 = .ok (.iaload, 1) := dk_46 (dk_at dksX3_prowl_0 9 rfl rfl)
theorem dX3_prowl_10 : decode cX3_prowl 10 = .ok (.if_icmp .ge 32, 3) := dk_162 0 32 (dk_at dksX3_prowl_0 10 rfl rfl)
theorem dX3_prowl_13 : decode cX3_prowl 13 = .ok (.aload_n 0, 1) := dk_42 (dk_at dksX3_prowl_0 13 rfl rfl)
theorem dX3_prowl_14 : decode cX3_prowl 14 = .ok (.iload_n 1, 1) := dk_27 (dk_at dksX3_prowl_0 14 rfl rfl)
theorem dX3_prowl_15 : decode cX3_prowl 15 = .ok (.invokevirtual 134, 3) := dk_182 0 134 (dk_at dksX3_prowl_0 15 rfl rfl)
theorem dX3_prowl_18 : decode cX3_prowl 18 = .ok (.ifCond .eq 18, 3) := dk_153 0 18 (dk_at dksX3_prowl_0 18 rfl rfl)
theorem dX3_prowl_21 : decode cX3_prowl 21 = .ok (.aload_n 0, 1) := dk_42 (dk_at dksX3_prowl_0 21 rfl rfl)
theorem dX3_prowl_22 : decode cX3_prowl 22 = .ok (.iload_n 1, 1) := dk_27 (dk_at dksX3_prowl_0 22 rfl rfl)
theorem dX3_prowl_23 : decode cX3_prowl 23 = .ok (.iconst 1, 1) := dk_4 (dk_at dksX3_prowl_0 23 rfl rfl)
theorem dX3_prowl_24 : decode cX3_prowl 24 = .ok (.invokevirtual 98, 3) := dk_182 0 98 (dk_at dksX3_prowl_1 0 rfl rfl)
theorem dX3_prowl_27 : decode cX3_prowl 27 = .ok (.aload_n 0, 1) := dk_42 (dk_at dksX3_prowl_1 3 rfl rfl)
theorem dX3_prowl_28 : decode cX3_prowl 28 = .ok (.getfield 9, 3) := dk_180 0 9 (dk_at dksX3_prowl_1 4 rfl rfl)
theorem dX3_prowl_31 : decode cX3_prowl 31 = .ok (.iconst 1, 1) := dk_4 (dk_at dksX3_prowl_1 7 rfl rfl)
theorem dX3_prowl_32 : decode cX3_prowl 32 = .ok (.iaload, 1) := dk_46 (dk_at dksX3_prowl_1 8 rfl rfl)
theorem dX3_prowl_33 : decode cX3_prowl 33 = .ok (.if_icmp .eq 9, 3) := dk_159 0 9 (dk_at dksX3_prowl_1 9 rfl rfl)
theorem dX3_prowl_36 : decode cX3_prowl 36 = .ok (.iinc 1 1, 3) := dk_132 1 1 (dk_at dksX3_prowl_1 12 rfl rfl)
theorem dX3_prowl_39 : decode cX3_prowl 39 = .ok (.goto (-37), 3) := dk_167 255 219 (dk_at dksX3_prowl_1 15 rfl rfl)
theorem dX3_prowl_42 : decode cX3_prowl 42 = .ok (.iload_n 1, 1) := dk_27 (dk_at dksX3_prowl_1 18 rfl rfl)
theorem dX3_prowl_43 : decode cX3_prowl 43 = .ok (.aload_n 0, 1) := dk_42 (dk_at dksX3_prowl_1 19 rfl rfl)
theorem dX3_prowl_44 : decode cX3_prowl 44 = .ok (.getfield 9, 3) := dk_180 0 9 (dk_at dksX3_prowl_1 20 rfl rfl)
theorem dX3_prowl_47 : decode cX3_prowl 47 = .ok (.bipush 10, 2) := dk_16 10 (dk_at dksX3_prowl_2 0 rfl rfl)
theorem dX3_prowl_49 : decode cX3_prowl 49 = .ok (.iaload, 1) := dk_46 (dk_at dksX3_prowl_2 2 rfl rfl)
theorem dX3_prowl_50 : decode cX3_prowl 50 = .ok (.if_icmp .ge 53, 3) := dk_162 0 53 (dk_at dksX3_prowl_2 3 rfl rfl)
theorem dX3_prowl_53 : decode cX3_prowl 53 = .ok (.aload_n 0, 1) := dk_42 (dk_at dksX3_prowl_2 6 rfl rfl)
theorem dX3_prowl_54 : decode cX3_prowl 54 = .ok (.iload_n 1, 1) := dk_27 (dk_at dksX3_prowl_2 7 rfl rfl)
theorem dX3_prowl_55 : decode cX3_prowl 55 = .ok (.iconst 2, 1) := dk_5 (dk_at dksX3_prowl_2 8 rfl rfl)
theorem dX3_prowl_56 : decode cX3_prowl 56 = .ok (.aload_n 0, 1) := dk_42 (dk_at dksX3_prowl_2 9 rfl rfl)
theorem dX3_prowl_57 : decode cX3_prowl 57 = .ok (.iload_n 1, 1) := dk_27 (dk_at dksX3_prowl_2 10 rfl rfl)
theorem dX3_prowl_58 : decode cX3_prowl 58 = .ok (.iconst 2, 1) := dk_5 (dk_at dksX3_prowl_2 11 rfl rfl)
theorem dX3_prowl_59 : decode cX3_prowl 59 = .ok (.invokevirtual 98, 3) := dk_182 0 98 (dk_at dksX3_prowl_2 12 rfl rfl)
theorem dX3_prowl_62 : decode cX3_prowl 62 = .ok (.iconst 1, 1) := dk_4 (dk_at dksX3_prowl_2 15 rfl rfl)
theorem dX3_prowl_63 : decode cX3_prowl 63 = .ok (.isub, 1) := dk_100 (dk_at dksX3_prowl_2 16 rfl rfl)
theorem dX3_prowl_64 : decode cX3_prowl 64 = .ok (.invokevirtual 104, 3) := dk_182 0 104 (dk_at dksX3_prowl_2 17 rfl rfl)
theorem dX3_prowl_67 : decode cX3_prowl 67 = .ok (.aload_n 0, 1) := dk_42 (dk_at dksX3_prowl_2 20 rfl rfl)
theorem dX3_prowl_68 : decode cX3_prowl 68 = .ok (.iload_n 1, 1) := dk_27 (dk_at dksX3_prowl_2 21 rfl rfl)
theorem dX3_prowl_69 : decode cX3_prowl 69 = .ok (.iconst 3, 1) := dk_6 (dk_at dksX3_prowl_2 22 rfl rfl)
theorem dX3_prowl_70 : decode cX3_prowl 70 = .ok (.aload_n 0, 1) := dk_42 (dk_at dksX3_prowl_2 23 rfl rfl)
theorem dX3_prowl_71 : decode cX3_prowl 71 = .ok (.iload_n 1, 1) := dk_27 (dk_at dksX3_prowl_3 0 rfl rfl)
theorem dX3_prowl_72 : decode cX3_prowl 72 = .ok (.iconst 2, 1) := dk_5 (dk_at dksX3_prowl_3 1 rfl rfl)
theorem dX3_prowl_73 : decode cX3_prowl 73 = .ok (.invokevirtual 98, 3) := dk_182 0 98 (dk_at dksX3_prowl_3 2 rfl rfl)
theorem dX3_prowl_76 : decode cX3_prowl 76 = .ok (.ifCond .ne 7, 3) := dk_154 0 7 (dk_at dksX3_prowl_3 5 rfl rfl)
theorem dX3_prowl_79 : decode cX3_prowl 79 = .ok (.iconst 0, 1) := dk_3 (dk_at dksX3_prowl_3 8 rfl rfl)
theorem dX3_prowl_80 : decode cX3_prowl 80 = .ok (.goto 9, 3) := dk_167 0 9 (dk_at dksX3_prowl_3 9 rfl rfl)
theorem dX3_prowl_83 : decode cX3_prowl 83 = .ok (.aload_n 0, 1) := dk_42 (dk_at dksX3_prowl_3 12 rfl rfl)
theorem dX3_prowl_84 : decode cX3_prowl 84 = .ok (.iload_n 1, 1) := dk_27 (dk_at dksX3_prowl_3 13 rfl rfl)
theorem dX3_prowl_85 : decode cX3_prowl 85 = .ok (.iconst 3, 1) := dk_6 (dk_at dksX3_prowl_3 14 rfl rfl)
theorem dX3_prowl_86 : decode cX3_prowl 86 = .ok (.invokevirtual 98, 3) := dk_182 0 98 (dk_at dksX3_prowl_3 15 rfl rfl)
theorem dX3_prowl_89 : decode cX3_prowl 89 = .ok (.invokevirtual 104, 3) := dk_182 0 104 (dk_at dksX3_prowl_3 18 rfl rfl)
theorem dX3_prowl_92 : decode cX3_prowl 92 = .ok (.aload_n 0, 1) := dk_42 (dk_at dksX3_prowl_3 21 rfl rfl)
theorem dX3_prowl_93 : decode cX3_prowl 93 = .ok (.getfield 9, 3) := dk_180 0 9 (dk_at dksX3_prowl_4 0 rfl rfl)
theorem dX3_prowl_96 : decode cX3_prowl 96 = .ok (.bipush 8, 2) := dk_16 8 (dk_at dksX3_prowl_4 3 rfl rfl)
theorem dX3_prowl_98 : decode cX3_prowl 98 = .ok (.dup2, 1) := dk_92 (dk_at dksX3_prowl_4 5 rfl rfl)
theorem dX3_prowl_99 : decode cX3_prowl 99 = .ok (.iaload, 1) := dk_46 (dk_at dksX3_prowl_4 6 rfl rfl)
theorem dX3_prowl_100 : decode cX3_prowl 100 = .ok (.iconst 1, 1) := dk_4 (dk_at dksX3_prowl_4 7 rfl rfl)
theorem dX3_prowl_101 : decode cX3_prowl 101 = .ok (.iadd, 1) := dk_96 (dk_at dksX3_prowl_4 8 rfl rfl)
theorem dX3_prowl_102 : decode cX3_prowl 102 = .ok (.iastore, 1) := dk_79 (dk_at dksX3_prowl_4 9 rfl rfl)
theorem dX3_prowl_103 : decode cX3_prowl 103 = .ok (.aload_n 0, 1) := dk_42 (dk_at dksX3_prowl_4 10 rfl rfl)
theorem dX3_prowl_104 : decode cX3_prowl 104 = .ok (.getfield 9, 3) := dk_180 0 9 (dk_at dksX3_prowl_4 11 rfl rfl)
theorem dX3_prowl_107 : decode cX3_prowl 107 = .ok (.iconst 1, 1) := dk_4 (dk_at dksX3_prowl_4 14 rfl rfl)
theorem dX3_prowl_108 : decode cX3_prowl 108 = .ok (.aload_n 0, 1) := dk_42 (dk_at dksX3_prowl_4 15 rfl rfl)
theorem dX3_prowl_109 : decode cX3_prowl 109 = .ok (.aload_n 0, 1) := dk_42 (dk_at dksX3_prowl_4 16 rfl rfl)
theorem dX3_prowl_110 : decode cX3_prowl 110 = .ok (.getfield 9, 3) := dk_180 0 9 (dk_at dksX3_prowl_4 17 rfl rfl)
theorem dX3_prowl_113 : decode cX3_prowl 113 = .ok (.iconst 1, 1) := dk_4 (dk_at dksX3_prowl_4 20 rfl rfl)
theorem dX3_prowl_114 : decode cX3_prowl 114 = .ok (.iaload, 1) := dk_46 (dk_at dksX3_prowl_4 21 rfl rfl)
theorem dX3_prowl_115 : decode cX3_prowl 115 = .ok (.bipush 9, 2) := dk_16 9 (dk_at dksX3_prowl_4 22 rfl rfl)
theorem dX3_prowl_117 : decode cX3_prowl 117 = .ok (.invokevirtual 137, 3) := dk_182 0 137 (dk_at dksX3_prowl_5 0 rfl rfl)
theorem dX3_prowl_120 : decode cX3_prowl 120 = .ok (.iastore, 1) := dk_79 (dk_at dksX3_prowl_5 3 rfl rfl)
theorem dX3_prowl_121 : decode cX3_prowl 121 = .ok (.return_, 1) := dk_177 (dk_at dksX3_prowl_5 4 rfl rfl)
abbrev cX3_voices : ByteArray := prog_14_method_68_code
def yX3_voices : MethodName := ⟨RX3, "voices", "()I"⟩
def dkwX3_voices_3 : List UInt8 := [167, 0, 4, 3, 96, 60, 132, 2, 1, 167, 255, 181, 27, 172]
abbrev dktX3_voices_3 : List UInt8 := dkwX3_voices_3 ++ []
def dkwX3_voices_2 : List UInt8 := [3, 54, 4, 27, 42, 28, 182, 0, 101, 154, 0, 17, 21, 4, 153, 0, 12, 42, 28, 6, 182, 0, 98]
abbrev dktX3_voices_2 : List UInt8 := dkwX3_voices_2 ++ dktX3_voices_3
def dkwX3_voices_1 : List UInt8 := [153, 0, 20, 29, 5, 159, 0, 15, 29, 16, 6, 159, 0, 9, 29, 16, 8, 160, 0, 7, 4, 167, 0, 4]
abbrev dktX3_voices_1 : List UInt8 := dkwX3_voices_1 ++ dktX3_voices_2
def dkwX3_voices_0 : List UInt8 := [3, 60, 3, 61, 28, 42, 180, 0, 9, 16, 10, 46, 162, 0, 70, 42, 28, 4, 182, 0, 98, 62, 29]
abbrev dktX3_voices_0 : List UInt8 := dkwX3_voices_0 ++ dktX3_voices_1
theorem dksX3_voices_0 : cX3_voices.data.toList.drop 0 = dktX3_voices_0 := by decide +kernel
theorem dksX3_voices_1 : cX3_voices.data.toList.drop 23 = dktX3_voices_1 := dk_seg dksX3_voices_0 23 rfl rfl
theorem dksX3_voices_2 : cX3_voices.data.toList.drop 47 = dktX3_voices_2 := dk_seg dksX3_voices_1 24 rfl rfl
theorem dksX3_voices_3 : cX3_voices.data.toList.drop 70 = dktX3_voices_3 := dk_seg dksX3_voices_2 23 rfl rfl
theorem dX3_voices_0 : decode cX3_voices 0 = .ok (.iconst 0, 1) := dk_3 (dk_at dksX3_voices_0 0 rfl rfl)
theorem dX3_voices_1 : decode cX3_voices 1 = .ok (.istore_n 1, 1) := dk_60 (dk_at dksX3_voices_0 1 rfl rfl)
theorem dX3_voices_2 : decode cX3_voices 2 = .ok (.iconst 0, 1) := dk_3 (dk_at dksX3_voices_0 2 rfl rfl)
theorem dX3_voices_3 : decode cX3_voices 3 = .ok (.istore_n 2, 1) := dk_61 (dk_at dksX3_voices_0 3 rfl rfl)
theorem dX3_voices_4 : decode cX3_voices 4 = .ok (.iload_n 2, 1) := dk_28 (dk_at dksX3_voices_0 4 rfl rfl)
theorem dX3_voices_5 : decode cX3_voices 5 = .ok (.aload_n 0, 1) := dk_42 (dk_at dksX3_voices_0 5 rfl rfl)
theorem dX3_voices_6 : decode cX3_voices 6 = .ok (.getfield 9, 3) := dk_180 0 9 (dk_at dksX3_voices_0 6 rfl rfl)
theorem dX3_voices_9 : decode cX3_voices 9 = .ok (.bipush 10, 2) := dk_16 10 (dk_at dksX3_voices_0 9 rfl rfl)
theorem dX3_voices_11 : decode cX3_voices 11 = .ok (.iaload, 1) := dk_46 (dk_at dksX3_voices_0 11 rfl rfl)
theorem dX3_voices_12 : decode cX3_voices 12 = .ok (.if_icmp .ge 70, 3) := dk_162 0 70 (dk_at dksX3_voices_0 12 rfl rfl)
theorem dX3_voices_15 : decode cX3_voices 15 = .ok (.aload_n 0, 1) := dk_42 (dk_at dksX3_voices_0 15 rfl rfl)
theorem dX3_voices_16 : decode cX3_voices 16 = .ok (.iload_n 2, 1) := dk_28 (dk_at dksX3_voices_0 16 rfl rfl)
theorem dX3_voices_17 : decode cX3_voices 17 = .ok (.iconst 1, 1) := dk_4 (dk_at dksX3_voices_0 17 rfl rfl)
theorem dX3_voices_18 : decode cX3_voices 18 = .ok (.invokevirtual 98, 3) := dk_182 0 98 (dk_at dksX3_voices_0 18 rfl rfl)
theorem dX3_voices_21 : decode cX3_voices 21 = .ok (.istore_n 3, 1) := dk_62 (dk_at dksX3_voices_0 21 rfl rfl)
theorem dX3_voices_22 : decode cX3_voices 22 = .ok (.iload_n 3, 1) := dk_29 (dk_at dksX3_voices_0 22 rfl rfl)
theorem dX3_voices_23 : decode cX3_voices 23 = .ok (.ifCond .eq 20, 3) := dk_153 0 20 (dk_at dksX3_voices_1 0 rfl rfl)
theorem dX3_voices_26 : decode cX3_voices 26 = .ok (.iload_n 3, 1) := dk_29 (dk_at dksX3_voices_1 3 rfl rfl)
theorem dX3_voices_27 : decode cX3_voices 27 = .ok (.iconst 2, 1) := dk_5 (dk_at dksX3_voices_1 4 rfl rfl)
theorem dX3_voices_28 : decode cX3_voices 28 = .ok (.if_icmp .eq 15, 3) := dk_159 0 15 (dk_at dksX3_voices_1 5 rfl rfl)
theorem dX3_voices_31 : decode cX3_voices 31 = .ok (.iload_n 3, 1) := dk_29 (dk_at dksX3_voices_1 8 rfl rfl)
theorem dX3_voices_32 : decode cX3_voices 32 = .ok (.bipush 6, 2) := dk_16 6 (dk_at dksX3_voices_1 9 rfl rfl)
theorem dX3_voices_34 : decode cX3_voices 34 = .ok (.if_icmp .eq 9, 3) := dk_159 0 9 (dk_at dksX3_voices_1 11 rfl rfl)
theorem dX3_voices_37 : decode cX3_voices 37 = .ok (.iload_n 3, 1) := dk_29 (dk_at dksX3_voices_1 14 rfl rfl)
theorem dX3_voices_38 : decode cX3_voices 38 = .ok (.bipush 8, 2) := dk_16 8 (dk_at dksX3_voices_1 15 rfl rfl)
theorem dX3_voices_40 : decode cX3_voices 40 = .ok (.if_icmp .ne 7, 3) := dk_160 0 7 (dk_at dksX3_voices_1 17 rfl rfl)
theorem dX3_voices_43 : decode cX3_voices 43 = .ok (.iconst 1, 1) := dk_4 (dk_at dksX3_voices_1 20 rfl rfl)
theorem dX3_voices_44 : decode cX3_voices 44 = .ok (.goto 4, 3) := dk_167 0 4 (dk_at dksX3_voices_1 21 rfl rfl)
theorem dX3_voices_47 : decode cX3_voices 47 = .ok (.iconst 0, 1) := dk_3 (dk_at dksX3_voices_2 0 rfl rfl)
theorem dX3_voices_48 : decode cX3_voices 48 = .ok (.istore 4, 2) := dk_54 4 (dk_at dksX3_voices_2 1 rfl rfl)
theorem dX3_voices_50 : decode cX3_voices 50 = .ok (.iload_n 1, 1) := dk_27 (dk_at dksX3_voices_2 3 rfl rfl)
theorem dX3_voices_51 : decode cX3_voices 51 = .ok (.aload_n 0, 1) := dk_42 (dk_at dksX3_voices_2 4 rfl rfl)
theorem dX3_voices_52 : decode cX3_voices 52 = .ok (.iload_n 2, 1) := dk_28 (dk_at dksX3_voices_2 5 rfl rfl)
theorem dX3_voices_53 : decode cX3_voices 53 = .ok (.invokevirtual 101, 3) := dk_182 0 101 (dk_at dksX3_voices_2 6 rfl rfl)
theorem dX3_voices_56 : decode cX3_voices 56 = .ok (.ifCond .ne 17, 3) := dk_154 0 17 (dk_at dksX3_voices_2 9 rfl rfl)
theorem dX3_voices_59 : decode cX3_voices 59 = .ok (.iload 4, 2) := dk_21 4 (dk_at dksX3_voices_2 12 rfl rfl)
theorem dX3_voices_61 : decode cX3_voices 61 = .ok (.ifCond .eq 12, 3) := dk_153 0 12 (dk_at dksX3_voices_2 14 rfl rfl)
theorem dX3_voices_64 : decode cX3_voices 64 = .ok (.aload_n 0, 1) := dk_42 (dk_at dksX3_voices_2 17 rfl rfl)
theorem dX3_voices_65 : decode cX3_voices 65 = .ok (.iload_n 2, 1) := dk_28 (dk_at dksX3_voices_2 18 rfl rfl)
theorem dX3_voices_66 : decode cX3_voices 66 = .ok (.iconst 3, 1) := dk_6 (dk_at dksX3_voices_2 19 rfl rfl)
theorem dX3_voices_67 : decode cX3_voices 67 = .ok (.invokevirtual 98, 3) := dk_182 0 98 (dk_at dksX3_voices_2 20 rfl rfl)
theorem dX3_voices_70 : decode cX3_voices 70 = .ok (.goto 4, 3) := dk_167 0 4 (dk_at dksX3_voices_3 0 rfl rfl)
theorem dX3_voices_73 : decode cX3_voices 73 = .ok (.iconst 0, 1) := dk_3 (dk_at dksX3_voices_3 3 rfl rfl)
theorem dX3_voices_74 : decode cX3_voices 74 = .ok (.iadd, 1) := dk_96 (dk_at dksX3_voices_3 4 rfl rfl)
theorem dX3_voices_75 : decode cX3_voices 75 = .ok (.istore_n 1, 1) := dk_60 (dk_at dksX3_voices_3 5 rfl rfl)
theorem dX3_voices_76 : decode cX3_voices 76 = .ok (.iinc 2 1, 3) := dk_132 2 1 (dk_at dksX3_voices_3 6 rfl rfl)
theorem dX3_voices_79 : decode cX3_voices 79 = .ok (.goto (-75), 3) := dk_167 255 181 (dk_at dksX3_voices_3 9 rfl rfl)
theorem dX3_voices_82 : decode cX3_voices 82 = .ok (.iload_n 1, 1) := dk_27 (dk_at dksX3_voices_3 12 rfl rfl)
theorem dX3_voices_83 : decode cX3_voices 83 = .ok (.ireturn, 1) := dk_172 (dk_at dksX3_voices_3 13 rfl rfl)
abbrev cX3_hatchesIn : ByteArray := prog_14_method_71_code
def yX3_hatchesIn : MethodName := ⟨RX3, "hatchesIn", "(I)I"⟩
def dkwX3_hatchesIn_5 : List UInt8 := [153, 0, 7, 3, 167, 0, 4, 28, 172]
abbrev dktX3_hatchesIn_5 : List UInt8 := dkwX3_hatchesIn_5 ++ []
def dkwX3_hatchesIn_4 : List UInt8 := [180, 0, 16, 42, 180, 0, 9, 184, 0, 56, 42, 5, 29, 154, 0, 7, 4, 167, 0, 4, 3, 182, 0, 94]
abbrev dktX3_hatchesIn_4 : List UInt8 := dkwX3_hatchesIn_4 ++ dktX3_hatchesIn_5
def dkwX3_hatchesIn_3 : List UInt8 := [167, 255, 241, 42, 180, 0, 192, 27, 122, 4, 126, 4, 160, 0, 7, 4, 167, 0, 4, 3, 62, 42]
abbrev dktX3_hatchesIn_3 : List UInt8 := dkwX3_hatchesIn_3 ++ dktX3_hatchesIn_4
def dkwX3_hatchesIn_2 : List UInt8 := [42, 180, 0, 16, 184, 0, 56, 3, 61, 42, 27, 182, 0, 134, 153, 0, 13, 42, 182, 0, 216, 132, 2, 1]
abbrev dktX3_hatchesIn_2 : List UInt8 := dkwX3_hatchesIn_2 ++ dktX3_hatchesIn_3
def dkwX3_hatchesIn_1 : List UInt8 := [27, 182, 0, 134, 154, 0, 7, 4, 167, 0, 4, 3, 182, 0, 94, 153, 0, 5, 3, 172, 42, 180, 0, 9]
abbrev dktX3_hatchesIn_1 : List UInt8 := dkwX3_hatchesIn_1 ++ dktX3_hatchesIn_2
def dkwX3_hatchesIn_0 : List UInt8 := [42, 4, 42, 27, 182, 0, 125, 154, 0, 7, 4, 167, 0, 4, 3, 182, 0, 94, 154, 0, 24, 42, 5, 42]
abbrev dktX3_hatchesIn_0 : List UInt8 := dkwX3_hatchesIn_0 ++ dktX3_hatchesIn_1
theorem dksX3_hatchesIn_0 : cX3_hatchesIn.data.toList.drop 0 = dktX3_hatchesIn_0 := by decide +kernel
theorem dksX3_hatchesIn_1 : cX3_hatchesIn.data.toList.drop 24 = dktX3_hatchesIn_1 := dk_seg dksX3_hatchesIn_0 24 rfl rfl
theorem dksX3_hatchesIn_2 : cX3_hatchesIn.data.toList.drop 48 = dktX3_hatchesIn_2 := dk_seg dksX3_hatchesIn_1 24 rfl rfl
theorem dksX3_hatchesIn_3 : cX3_hatchesIn.data.toList.drop 72 = dktX3_hatchesIn_3 := dk_seg dksX3_hatchesIn_2 24 rfl rfl
theorem dksX3_hatchesIn_4 : cX3_hatchesIn.data.toList.drop 94 = dktX3_hatchesIn_4 := dk_seg dksX3_hatchesIn_3 22 rfl rfl
theorem dksX3_hatchesIn_5 : cX3_hatchesIn.data.toList.drop 118 = dktX3_hatchesIn_5 := dk_seg dksX3_hatchesIn_4 24 rfl rfl
theorem dX3_hatchesIn_0 : decode cX3_hatchesIn 0 = .ok (.aload_n 0, 1) := dk_42 (dk_at dksX3_hatchesIn_0 0 rfl rfl)
theorem dX3_hatchesIn_1 : decode cX3_hatchesIn 1 = .ok (.iconst 1, 1) := dk_4 (dk_at dksX3_hatchesIn_0 1 rfl rfl)
theorem dX3_hatchesIn_2 : decode cX3_hatchesIn 2 = .ok (.aload_n 0, 1) := dk_42 (dk_at dksX3_hatchesIn_0 2 rfl rfl)
theorem dX3_hatchesIn_3 : decode cX3_hatchesIn 3 = .ok (.iload_n 1, 1) := dk_27 (dk_at dksX3_hatchesIn_0 3 rfl rfl)
theorem dX3_hatchesIn_4 : decode cX3_hatchesIn 4 = .ok (.invokevirtual 125, 3) := dk_182 0 125 (dk_at dksX3_hatchesIn_0 4 rfl rfl)
theorem dX3_hatchesIn_7 : decode cX3_hatchesIn 7 = .ok (.ifCond .ne 7, 3) := dk_154 0 7 (dk_at dksX3_hatchesIn_0 7 rfl rfl)
theorem dX3_hatchesIn_10 : decode cX3_hatchesIn 10 = .ok (.iconst 1, 1) := dk_4 (dk_at dksX3_hatchesIn_0 10 rfl rfl)
theorem dX3_hatchesIn_11 : decode cX3_hatchesIn 11 = .ok (.goto 4, 3) := dk_167 0 4 (dk_at dksX3_hatchesIn_0 11 rfl rfl)
theorem dX3_hatchesIn_14 : decode cX3_hatchesIn 14 = .ok (.iconst 0, 1) := dk_3 (dk_at dksX3_hatchesIn_0 14 rfl rfl)
theorem dX3_hatchesIn_15 : decode cX3_hatchesIn 15 = .ok (.invokevirtual 94, 3) := dk_182 0 94 (dk_at dksX3_hatchesIn_0 15 rfl rfl)
theorem dX3_hatchesIn_18 : decode cX3_hatchesIn 18 = .ok (.ifCond .ne 24, 3) := dk_154 0 24 (dk_at dksX3_hatchesIn_0 18 rfl rfl)
theorem dX3_hatchesIn_21 : decode cX3_hatchesIn 21 = .ok (.aload_n 0, 1) := dk_42 (dk_at dksX3_hatchesIn_0 21 rfl rfl)
theorem dX3_hatchesIn_22 : decode cX3_hatchesIn 22 = .ok (.iconst 2, 1) := dk_5 (dk_at dksX3_hatchesIn_0 22 rfl rfl)
theorem dX3_hatchesIn_23 : decode cX3_hatchesIn 23 = .ok (.aload_n 0, 1) := dk_42 (dk_at dksX3_hatchesIn_0 23 rfl rfl)
theorem dX3_hatchesIn_24 : decode cX3_hatchesIn 24 = .ok (.iload_n 1, 1) := dk_27 (dk_at dksX3_hatchesIn_1 0 rfl rfl)
theorem dX3_hatchesIn_25 : decode cX3_hatchesIn 25 = .ok (.invokevirtual 134, 3) := dk_182 0 134 (dk_at dksX3_hatchesIn_1 1 rfl rfl)
theorem dX3_hatchesIn_28 : decode cX3_hatchesIn 28 = .ok (.ifCond .ne 7, 3) := dk_154 0 7 (dk_at dksX3_hatchesIn_1 4 rfl rfl)
theorem dX3_hatchesIn_31 : decode cX3_hatchesIn 31 = .ok (.iconst 1, 1) := dk_4 (dk_at dksX3_hatchesIn_1 7 rfl rfl)
theorem dX3_hatchesIn_32 : decode cX3_hatchesIn 32 = .ok (.goto 4, 3) := dk_167 0 4 (dk_at dksX3_hatchesIn_1 8 rfl rfl)
theorem dX3_hatchesIn_35 : decode cX3_hatchesIn 35 = .ok (.iconst 0, 1) := dk_3 (dk_at dksX3_hatchesIn_1 11 rfl rfl)
theorem dX3_hatchesIn_36 : decode cX3_hatchesIn 36 = .ok (.invokevirtual 94, 3) := dk_182 0 94 (dk_at dksX3_hatchesIn_1 12 rfl rfl)
theorem dX3_hatchesIn_39 : decode cX3_hatchesIn 39 = .ok (.ifCond .eq 5, 3) := dk_153 0 5 (dk_at dksX3_hatchesIn_1 15 rfl rfl)
theorem dX3_hatchesIn_42 : decode cX3_hatchesIn 42 = .ok (.iconst 0, 1) := dk_3 (dk_at dksX3_hatchesIn_1 18 rfl rfl)
theorem dX3_hatchesIn_43 : decode cX3_hatchesIn 43 = .ok (.ireturn, 1) := dk_172 (dk_at dksX3_hatchesIn_1 19 rfl rfl)
theorem dX3_hatchesIn_44 : decode cX3_hatchesIn 44 = .ok (.aload_n 0, 1) := dk_42 (dk_at dksX3_hatchesIn_1 20 rfl rfl)
theorem dX3_hatchesIn_45 : decode cX3_hatchesIn 45 = .ok (.getfield 9, 3) := dk_180 0 9 (dk_at dksX3_hatchesIn_1 21 rfl rfl)
theorem dX3_hatchesIn_48 : decode cX3_hatchesIn 48 = .ok (.aload_n 0, 1) := dk_42 (dk_at dksX3_hatchesIn_2 0 rfl rfl)
theorem dX3_hatchesIn_49 : decode cX3_hatchesIn 49 = .ok (.getfield 16, 3) := dk_180 0 16 (dk_at dksX3_hatchesIn_2 1 rfl rfl)
theorem dX3_hatchesIn_52 : decode cX3_hatchesIn 52 = .ok (.invokestatic 56, 3) := dk_184 0 56 (dk_at dksX3_hatchesIn_2 4 rfl rfl)
theorem dX3_hatchesIn_55 : decode cX3_hatchesIn 55 = .ok (.iconst 0, 1) := dk_3 (dk_at dksX3_hatchesIn_2 7 rfl rfl)
theorem dX3_hatchesIn_56 : decode cX3_hatchesIn 56 = .ok (.istore_n 2, 1) := dk_61 (dk_at dksX3_hatchesIn_2 8 rfl rfl)
theorem dX3_hatchesIn_57 : decode cX3_hatchesIn 57 = .ok (.aload_n 0, 1) := dk_42 (dk_at dksX3_hatchesIn_2 9 rfl rfl)
theorem dX3_hatchesIn_58 : decode cX3_hatchesIn 58 = .ok (.iload_n 1, 1) := dk_27 (dk_at dksX3_hatchesIn_2 10 rfl rfl)
theorem dX3_hatchesIn_59 : decode cX3_hatchesIn 59 = .ok (.invokevirtual 134, 3) := dk_182 0 134 (dk_at dksX3_hatchesIn_2 11 rfl rfl)
theorem dX3_hatchesIn_62 : decode cX3_hatchesIn 62 = .ok (.ifCond .eq 13, 3) := dk_153 0 13 (dk_at dksX3_hatchesIn_2 14 rfl rfl)
theorem dX3_hatchesIn_65 : decode cX3_hatchesIn 65 = .ok (.aload_n 0, 1) := dk_42 (dk_at dksX3_hatchesIn_2 17 rfl rfl)
theorem dX3_hatchesIn_66 : decode cX3_hatchesIn 66 = .ok (.invokevirtual 216, 3) := dk_182 0 216 (dk_at dksX3_hatchesIn_2 18 rfl rfl)
theorem dX3_hatchesIn_69 : decode cX3_hatchesIn 69 = .ok (.iinc 2 1, 3) := dk_132 2 1 (dk_at dksX3_hatchesIn_2 21 rfl rfl)
theorem dX3_hatchesIn_72 : decode cX3_hatchesIn 72 = .ok (.goto (-15), 3) := dk_167 255 241 (dk_at dksX3_hatchesIn_3 0 rfl rfl)
theorem dX3_hatchesIn_75 : decode cX3_hatchesIn 75 = .ok (.aload_n 0, 1) := dk_42 (dk_at dksX3_hatchesIn_3 3 rfl rfl)
theorem dX3_hatchesIn_76 : decode cX3_hatchesIn 76 = .ok (.getfield 192, 3) := dk_180 0 192 (dk_at dksX3_hatchesIn_3 4 rfl rfl)
theorem dX3_hatchesIn_79 : decode cX3_hatchesIn 79 = .ok (.iload_n 1, 1) := dk_27 (dk_at dksX3_hatchesIn_3 7 rfl rfl)
theorem dX3_hatchesIn_80 : decode cX3_hatchesIn 80 = .ok (.ishr, 1) := dk_122 (dk_at dksX3_hatchesIn_3 8 rfl rfl)
theorem dX3_hatchesIn_81 : decode cX3_hatchesIn 81 = .ok (.iconst 1, 1) := dk_4 (dk_at dksX3_hatchesIn_3 9 rfl rfl)
theorem dX3_hatchesIn_82 : decode cX3_hatchesIn 82 = .ok (.iand, 1) := dk_126 (dk_at dksX3_hatchesIn_3 10 rfl rfl)
theorem dX3_hatchesIn_83 : decode cX3_hatchesIn 83 = .ok (.iconst 1, 1) := dk_4 (dk_at dksX3_hatchesIn_3 11 rfl rfl)
theorem dX3_hatchesIn_84 : decode cX3_hatchesIn 84 = .ok (.if_icmp .ne 7, 3) := dk_160 0 7 (dk_at dksX3_hatchesIn_3 12 rfl rfl)
theorem dX3_hatchesIn_87 : decode cX3_hatchesIn 87 = .ok (.iconst 1, 1) := dk_4 (dk_at dksX3_hatchesIn_3 15 rfl rfl)
theorem dX3_hatchesIn_88 : decode cX3_hatchesIn 88 = .ok (.goto 4, 3) := dk_167 0 4 (dk_at dksX3_hatchesIn_3 16 rfl rfl)
theorem dX3_hatchesIn_91 : decode cX3_hatchesIn 91 = .ok (.iconst 0, 1) := dk_3 (dk_at dksX3_hatchesIn_3 19 rfl rfl)
theorem dX3_hatchesIn_92 : decode cX3_hatchesIn 92 = .ok (.istore_n 3, 1) := dk_62 (dk_at dksX3_hatchesIn_3 20 rfl rfl)
theorem dX3_hatchesIn_93 : decode cX3_hatchesIn 93 = .ok (.aload_n 0, 1) := dk_42 (dk_at dksX3_hatchesIn_3 21 rfl rfl)
theorem dX3_hatchesIn_94 : decode cX3_hatchesIn 94 = .ok (.getfield 16, 3) := dk_180 0 16 (dk_at dksX3_hatchesIn_4 0 rfl rfl)
theorem dX3_hatchesIn_97 : decode cX3_hatchesIn 97 = .ok (.aload_n 0, 1) := dk_42 (dk_at dksX3_hatchesIn_4 3 rfl rfl)
theorem dX3_hatchesIn_98 : decode cX3_hatchesIn 98 = .ok (.getfield 9, 3) := dk_180 0 9 (dk_at dksX3_hatchesIn_4 4 rfl rfl)
theorem dX3_hatchesIn_101 : decode cX3_hatchesIn 101 = .ok (.invokestatic 56, 3) := dk_184 0 56 (dk_at dksX3_hatchesIn_4 7 rfl rfl)
theorem dX3_hatchesIn_104 : decode cX3_hatchesIn 104 = .ok (.aload_n 0, 1) := dk_42 (dk_at dksX3_hatchesIn_4 10 rfl rfl)
theorem dX3_hatchesIn_105 : decode cX3_hatchesIn 105 = .ok (.iconst 2, 1) := dk_5 (dk_at dksX3_hatchesIn_4 11 rfl rfl)
theorem dX3_hatchesIn_106 : decode cX3_hatchesIn 106 = .ok (.iload_n 3, 1) := dk_29 (dk_at dksX3_hatchesIn_4 12 rfl rfl)
theorem dX3_hatchesIn_107 : decode cX3_hatchesIn 107 = .ok (.ifCond .ne 7, 3) := dk_154 0 7 (dk_at dksX3_hatchesIn_4 13 rfl rfl)
theorem dX3_hatchesIn_110 : decode cX3_hatchesIn 110 = .ok (.iconst 1, 1) := dk_4 (dk_at dksX3_hatchesIn_4 16 rfl rfl)
theorem dX3_hatchesIn_111 : decode cX3_hatchesIn 111 = .ok (.goto 4, 3) := dk_167 0 4 (dk_at dksX3_hatchesIn_4 17 rfl rfl)
theorem dX3_hatchesIn_114 : decode cX3_hatchesIn 114 = .ok (.iconst 0, 1) := dk_3 (dk_at dksX3_hatchesIn_4 20 rfl rfl)
theorem dX3_hatchesIn_115 : decode cX3_hatchesIn 115 = .ok (.invokevirtual 94, 3) := dk_182 0 94 (dk_at dksX3_hatchesIn_4 21 rfl rfl)
theorem dX3_hatchesIn_118 : decode cX3_hatchesIn 118 = .ok (.ifCond .eq 7, 3) := dk_153 0 7 (dk_at dksX3_hatchesIn_5 0 rfl rfl)
theorem dX3_hatchesIn_121 : decode cX3_hatchesIn 121 = .ok (.iconst 0, 1) := dk_3 (dk_at dksX3_hatchesIn_5 3 rfl rfl)
theorem dX3_hatchesIn_122 : decode cX3_hatchesIn 122 = .ok (.goto 4, 3) := dk_167 0 4 (dk_at dksX3_hatchesIn_5 4 rfl rfl)
theorem dX3_hatchesIn_125 : decode cX3_hatchesIn 125 = .ok (.iload_n 2, 1) := dk_28 (dk_at dksX3_hatchesIn_5 7 rfl rfl)
theorem dX3_hatchesIn_126 : decode cX3_hatchesIn 126 = .ok (.ireturn, 1) := dk_172 (dk_at dksX3_hatchesIn_5 8 rfl rfl)
abbrev cX3_wouldShed : ByteArray := prog_14_method_72_code
def yX3_wouldShed : MethodName := ⟨RX3, "wouldShed", "(I)I"⟩
def dkwX3_wouldShed_3 : List UInt8 := [180, 0, 16, 42, 180, 0, 9, 184, 0, 56, 28, 172]
abbrev dktX3_wouldShed_3 : List UInt8 := dkwX3_wouldShed_3 ++ []
def dkwX3_wouldShed_2 : List UInt8 := [132, 2, 1, 167, 255, 244, 42, 180, 0, 9, 16, 9, 46, 42, 180, 0, 16, 16, 9, 46, 100, 61, 42]
abbrev dktX3_wouldShed_2 : List UInt8 := dkwX3_wouldShed_2 ++ dktX3_wouldShed_3
def dkwX3_wouldShed_1 : List UInt8 := [172, 42, 180, 0, 9, 42, 180, 0, 16, 184, 0, 56, 3, 61, 28, 27, 162, 0, 13, 42, 182, 0, 216]
abbrev dktX3_wouldShed_1 : List UInt8 := dkwX3_wouldShed_1 ++ dktX3_wouldShed_2
def dkwX3_wouldShed_0 : List UInt8 := [42, 4, 27, 3, 16, 90, 184, 0, 68, 154, 0, 7, 4, 167, 0, 4, 3, 182, 0, 94, 153, 0, 5, 3]
abbrev dktX3_wouldShed_0 : List UInt8 := dkwX3_wouldShed_0 ++ dktX3_wouldShed_1
theorem dksX3_wouldShed_0 : cX3_wouldShed.data.toList.drop 0 = dktX3_wouldShed_0 := by decide +kernel
theorem dksX3_wouldShed_1 : cX3_wouldShed.data.toList.drop 24 = dktX3_wouldShed_1 := dk_seg dksX3_wouldShed_0 24 rfl rfl
theorem dksX3_wouldShed_2 : cX3_wouldShed.data.toList.drop 47 = dktX3_wouldShed_2 := dk_seg dksX3_wouldShed_1 23 rfl rfl
theorem dksX3_wouldShed_3 : cX3_wouldShed.data.toList.drop 70 = dktX3_wouldShed_3 := dk_seg dksX3_wouldShed_2 23 rfl rfl
theorem dX3_wouldShed_0 : decode cX3_wouldShed 0 = .ok (.aload_n 0, 1) := dk_42 (dk_at dksX3_wouldShed_0 0 rfl rfl)
theorem dX3_wouldShed_1 : decode cX3_wouldShed 1 = .ok (.iconst 1, 1) := dk_4 (dk_at dksX3_wouldShed_0 1 rfl rfl)
theorem dX3_wouldShed_2 : decode cX3_wouldShed 2 = .ok (.iload_n 1, 1) := dk_27 (dk_at dksX3_wouldShed_0 2 rfl rfl)
theorem dX3_wouldShed_3 : decode cX3_wouldShed 3 = .ok (.iconst 0, 1) := dk_3 (dk_at dksX3_wouldShed_0 3 rfl rfl)
theorem dX3_wouldShed_4 : decode cX3_wouldShed 4 = .ok (.bipush 90, 2) := dk_16 90 (dk_at dksX3_wouldShed_0 4 rfl rfl)
theorem dX3_wouldShed_6 : decode cX3_wouldShed 6 = .ok (.invokestatic 68, 3) := dk_184 0 68 (dk_at dksX3_wouldShed_0 6 rfl rfl)
theorem dX3_wouldShed_9 : decode cX3_wouldShed 9 = .ok (.ifCond .ne 7, 3) := dk_154 0 7 (dk_at dksX3_wouldShed_0 9 rfl rfl)
theorem dX3_wouldShed_12 : decode cX3_wouldShed 12 = .ok (.iconst 1, 1) := dk_4 (dk_at dksX3_wouldShed_0 12 rfl rfl)
theorem dX3_wouldShed_13 : decode cX3_wouldShed 13 = .ok (.goto 4, 3) := dk_167 0 4 (dk_at dksX3_wouldShed_0 13 rfl rfl)
theorem dX3_wouldShed_16 : decode cX3_wouldShed 16 = .ok (.iconst 0, 1) := dk_3 (dk_at dksX3_wouldShed_0 16 rfl rfl)
theorem dX3_wouldShed_17 : decode cX3_wouldShed 17 = .ok (.invokevirtual 94, 3) := dk_182 0 94 (dk_at dksX3_wouldShed_0 17 rfl rfl)
theorem dX3_wouldShed_20 : decode cX3_wouldShed 20 = .ok (.ifCond .eq 5, 3) := dk_153 0 5 (dk_at dksX3_wouldShed_0 20 rfl rfl)
theorem dX3_wouldShed_23 : decode cX3_wouldShed 23 = .ok (.iconst 0, 1) := dk_3 (dk_at dksX3_wouldShed_0 23 rfl rfl)
theorem dX3_wouldShed_24 : decode cX3_wouldShed 24 = .ok (.ireturn, 1) := dk_172 (dk_at dksX3_wouldShed_1 0 rfl rfl)
theorem dX3_wouldShed_25 : decode cX3_wouldShed 25 = .ok (.aload_n 0, 1) := dk_42 (dk_at dksX3_wouldShed_1 1 rfl rfl)
theorem dX3_wouldShed_26 : decode cX3_wouldShed 26 = .ok (.getfield 9, 3) := dk_180 0 9 (dk_at dksX3_wouldShed_1 2 rfl rfl)
theorem dX3_wouldShed_29 : decode cX3_wouldShed 29 = .ok (.aload_n 0, 1) := dk_42 (dk_at dksX3_wouldShed_1 5 rfl rfl)
theorem dX3_wouldShed_30 : decode cX3_wouldShed 30 = .ok (.getfield 16, 3) := dk_180 0 16 (dk_at dksX3_wouldShed_1 6 rfl rfl)
theorem dX3_wouldShed_33 : decode cX3_wouldShed 33 = .ok (.invokestatic 56, 3) := dk_184 0 56 (dk_at dksX3_wouldShed_1 9 rfl rfl)
theorem dX3_wouldShed_36 : decode cX3_wouldShed 36 = .ok (.iconst 0, 1) := dk_3 (dk_at dksX3_wouldShed_1 12 rfl rfl)
theorem dX3_wouldShed_37 : decode cX3_wouldShed 37 = .ok (.istore_n 2, 1) := dk_61 (dk_at dksX3_wouldShed_1 13 rfl rfl)
theorem dX3_wouldShed_38 : decode cX3_wouldShed 38 = .ok (.iload_n 2, 1) := dk_28 (dk_at dksX3_wouldShed_1 14 rfl rfl)
theorem dX3_wouldShed_39 : decode cX3_wouldShed 39 = .ok (.iload_n 1, 1) := dk_27 (dk_at dksX3_wouldShed_1 15 rfl rfl)
theorem dX3_wouldShed_40 : decode cX3_wouldShed 40 = .ok (.if_icmp .ge 13, 3) := dk_162 0 13 (dk_at dksX3_wouldShed_1 16 rfl rfl)
theorem dX3_wouldShed_43 : decode cX3_wouldShed 43 = .ok (.aload_n 0, 1) := dk_42 (dk_at dksX3_wouldShed_1 19 rfl rfl)
theorem dX3_wouldShed_44 : decode cX3_wouldShed 44 = .ok (.invokevirtual 216, 3) := dk_182 0 216 (dk_at dksX3_wouldShed_1 20 rfl rfl)
theorem dX3_wouldShed_47 : decode cX3_wouldShed 47 = .ok (.iinc 2 1, 3) := dk_132 2 1 (dk_at dksX3_wouldShed_2 0 rfl rfl)
theorem dX3_wouldShed_50 : decode cX3_wouldShed 50 = .ok (.goto (-12), 3) := dk_167 255 244 (dk_at dksX3_wouldShed_2 3 rfl rfl)
theorem dX3_wouldShed_53 : decode cX3_wouldShed 53 = .ok (.aload_n 0, 1) := dk_42 (dk_at dksX3_wouldShed_2 6 rfl rfl)
theorem dX3_wouldShed_54 : decode cX3_wouldShed 54 = .ok (.getfield 9, 3) := dk_180 0 9 (dk_at dksX3_wouldShed_2 7 rfl rfl)
theorem dX3_wouldShed_57 : decode cX3_wouldShed 57 = .ok (.bipush 9, 2) := dk_16 9 (dk_at dksX3_wouldShed_2 10 rfl rfl)
theorem dX3_wouldShed_59 : decode cX3_wouldShed 59 = .ok (.iaload, 1) := dk_46 (dk_at dksX3_wouldShed_2 12 rfl rfl)
theorem dX3_wouldShed_60 : decode cX3_wouldShed 60 = .ok (.aload_n 0, 1) := dk_42 (dk_at dksX3_wouldShed_2 13 rfl rfl)
theorem dX3_wouldShed_61 : decode cX3_wouldShed 61 = .ok (.getfield 16, 3) := dk_180 0 16 (dk_at dksX3_wouldShed_2 14 rfl rfl)
theorem dX3_wouldShed_64 : decode cX3_wouldShed 64 = .ok (.bipush 9, 2) := dk_16 9 (dk_at dksX3_wouldShed_2 17 rfl rfl)
theorem dX3_wouldShed_66 : decode cX3_wouldShed 66 = .ok (.iaload, 1) := dk_46 (dk_at dksX3_wouldShed_2 19 rfl rfl)
theorem dX3_wouldShed_67 : decode cX3_wouldShed 67 = .ok (.isub, 1) := dk_100 (dk_at dksX3_wouldShed_2 20 rfl rfl)
theorem dX3_wouldShed_68 : decode cX3_wouldShed 68 = .ok (.istore_n 2, 1) := dk_61 (dk_at dksX3_wouldShed_2 21 rfl rfl)
theorem dX3_wouldShed_69 : decode cX3_wouldShed 69 = .ok (.aload_n 0, 1) := dk_42 (dk_at dksX3_wouldShed_2 22 rfl rfl)
theorem dX3_wouldShed_70 : decode cX3_wouldShed 70 = .ok (.getfield 16, 3) := dk_180 0 16 (dk_at dksX3_wouldShed_3 0 rfl rfl)
theorem dX3_wouldShed_73 : decode cX3_wouldShed 73 = .ok (.aload_n 0, 1) := dk_42 (dk_at dksX3_wouldShed_3 3 rfl rfl)
theorem dX3_wouldShed_74 : decode cX3_wouldShed 74 = .ok (.getfield 9, 3) := dk_180 0 9 (dk_at dksX3_wouldShed_3 4 rfl rfl)
theorem dX3_wouldShed_77 : decode cX3_wouldShed 77 = .ok (.invokestatic 56, 3) := dk_184 0 56 (dk_at dksX3_wouldShed_3 7 rfl rfl)
theorem dX3_wouldShed_80 : decode cX3_wouldShed 80 = .ok (.iload_n 2, 1) := dk_28 (dk_at dksX3_wouldShed_3 10 rfl rfl)
theorem dX3_wouldShed_81 : decode cX3_wouldShed 81 = .ok (.ireturn, 1) := dk_172 (dk_at dksX3_wouldShed_3 11 rfl rfl)
abbrev cX3_noise : ByteArray := prog_14_method_73_code
def yX3_noise : MethodName := ⟨RX3, "noise", "()I"⟩
def dkwX3_noise_0 : List UInt8 := [42, 3, 181, 0, 41, 42, 182, 0, 213, 172]
abbrev dktX3_noise_0 : List UInt8 := dkwX3_noise_0 ++ []
theorem dksX3_noise_0 : cX3_noise.data.toList.drop 0 = dktX3_noise_0 := by decide +kernel
theorem dX3_noise_0 : decode cX3_noise 0 = .ok (.aload_n 0, 1) := dk_42 (dk_at dksX3_noise_0 0 rfl rfl)
theorem dX3_noise_1 : decode cX3_noise 1 = .ok (.iconst 0, 1) := dk_3 (dk_at dksX3_noise_0 1 rfl rfl)
theorem dX3_noise_2 : decode cX3_noise 2 = .ok (.putfield 41, 3) := dk_181 0 41 (dk_at dksX3_noise_0 2 rfl rfl)
theorem dX3_noise_5 : decode cX3_noise 5 = .ok (.aload_n 0, 1) := dk_42 (dk_at dksX3_noise_0 5 rfl rfl)
theorem dX3_noise_6 : decode cX3_noise 6 = .ok (.invokevirtual 213, 3) := dk_182 0 213 (dk_at dksX3_noise_0 6 rfl rfl)
theorem dX3_noise_9 : decode cX3_noise 9 = .ok (.ireturn, 1) := dk_172 (dk_at dksX3_noise_0 9 rfl rfl)
abbrev cX3_line : ByteArray := prog_14_method_76_code
def yX3_line : MethodName := ⟨RX3, "line", "(I)I"⟩
def dkwX3_line_7 : List UInt8 := [42, 180, 0, 224, 172]
abbrev dktX3_line_7 : List UInt8 := dkwX3_line_7 ++ []
def dkwX3_line_6 : List UInt8 := [182, 0, 231, 42, 42, 180, 0, 9, 4, 46, 27, 160, 0, 8, 18, 248, 167, 0, 5, 18, 250, 182, 0, 236]
abbrev dktX3_line_6 : List UInt8 := dkwX3_line_6 ++ dktX3_line_7
def dkwX3_line_5 : List UInt8 := [16, 13, 27, 96, 46, 158, 0, 22, 42, 18, 246, 182, 0, 236, 42, 42, 180, 0, 9, 16, 13, 27, 96, 46]
abbrev dktX3_line_5 : List UInt8 := dkwX3_line_5 ++ dktX3_line_6
def dkwX3_line_4 : List UInt8 := [182, 0, 236, 42, 42, 28, 5, 182, 0, 98, 182, 0, 231, 132, 2, 1, 167, 255, 184, 42, 180, 0, 9]
abbrev dktX3_line_4 : List UInt8 := dkwX3_line_4 ++ dktX3_line_5
def dkwX3_line_3 : List UInt8 := [167, 0, 5, 18, 242, 182, 0, 236, 42, 28, 182, 0, 231, 42, 28, 182, 0, 134, 153, 0, 19, 42, 18, 244]
abbrev dktX3_line_3 : List UInt8 := dkwX3_line_3 ++ dktX3_line_4
def dkwX3_line_2 : List UInt8 := [162, 0, 67, 42, 28, 4, 182, 0, 98, 27, 160, 0, 51, 42, 42, 28, 182, 0, 101, 153, 0, 8, 18, 240]
abbrev dktX3_line_2 : List UInt8 := dkwX3_line_2 ++ dktX3_line_3
def dkwX3_line_1 : List UInt8 := [181, 0, 224, 42, 27, 182, 0, 231, 42, 18, 234, 182, 0, 236, 3, 61, 28, 42, 180, 0, 9, 16, 10, 46]
abbrev dktX3_line_1 : List UInt8 := dkwX3_line_1 ++ dktX3_line_2
def dkwX3_line_0 : List UInt8 := [42, 4, 27, 184, 0, 112, 154, 0, 7, 4, 167, 0, 4, 3, 182, 0, 94, 153, 0, 5, 3, 172, 42, 3]
abbrev dktX3_line_0 : List UInt8 := dkwX3_line_0 ++ dktX3_line_1
theorem dksX3_line_0 : cX3_line.data.toList.drop 0 = dktX3_line_0 := by decide +kernel
theorem dksX3_line_1 : cX3_line.data.toList.drop 24 = dktX3_line_1 := dk_seg dksX3_line_0 24 rfl rfl
theorem dksX3_line_2 : cX3_line.data.toList.drop 48 = dktX3_line_2 := dk_seg dksX3_line_1 24 rfl rfl
theorem dksX3_line_3 : cX3_line.data.toList.drop 72 = dktX3_line_3 := dk_seg dksX3_line_2 24 rfl rfl
theorem dksX3_line_4 : cX3_line.data.toList.drop 96 = dktX3_line_4 := dk_seg dksX3_line_3 24 rfl rfl
theorem dksX3_line_5 : cX3_line.data.toList.drop 119 = dktX3_line_5 := dk_seg dksX3_line_4 23 rfl rfl
theorem dksX3_line_6 : cX3_line.data.toList.drop 143 = dktX3_line_6 := dk_seg dksX3_line_5 24 rfl rfl
theorem dksX3_line_7 : cX3_line.data.toList.drop 167 = dktX3_line_7 := dk_seg dksX3_line_6 24 rfl rfl
theorem dX3_line_0 : decode cX3_line 0 = .ok (.aload_n 0, 1) := dk_42 (dk_at dksX3_line_0 0 rfl rfl)
theorem dX3_line_1 : decode cX3_line 1 = .ok (.iconst 1, 1) := dk_4 (dk_at dksX3_line_0 1 rfl rfl)
theorem dX3_line_2 : decode cX3_line 2 = .ok (.iload_n 1, 1) := dk_27 (dk_at dksX3_line_0 2 rfl rfl)
theorem dX3_line_3 : decode cX3_line 3 = .ok (.invokestatic 112, 3) := dk_184 0 112 (dk_at dksX3_line_0 3 rfl rfl)
theorem dX3_line_6 : decode cX3_line 6 = .ok (.ifCond .ne 7, 3) := dk_154 0 7 (dk_at dksX3_line_0 6 rfl rfl)
theorem dX3_line_9 : decode cX3_line 9 = .ok (.iconst 1, 1) := dk_4 (dk_at dksX3_line_0 9 rfl rfl)
theorem dX3_line_10 : decode cX3_line 10 = .ok (.goto 4, 3) := dk_167 0 4 (dk_at dksX3_line_0 10 rfl rfl)
theorem dX3_line_13 : decode cX3_line 13 = .ok (.iconst 0, 1) := dk_3 (dk_at dksX3_line_0 13 rfl rfl)
theorem dX3_line_14 : decode cX3_line 14 = .ok (.invokevirtual 94, 3) := dk_182 0 94 (dk_at dksX3_line_0 14 rfl rfl)
theorem dX3_line_17 : decode cX3_line 17 = .ok (.ifCond .eq 5, 3) := dk_153 0 5 (dk_at dksX3_line_0 17 rfl rfl)
theorem dX3_line_20 : decode cX3_line 20 = .ok (.iconst 0, 1) := dk_3 (dk_at dksX3_line_0 20 rfl rfl)
theorem dX3_line_21 : decode cX3_line 21 = .ok (.ireturn, 1) := dk_172 (dk_at dksX3_line_0 21 rfl rfl)
theorem dX3_line_22 : decode cX3_line 22 = .ok (.aload_n 0, 1) := dk_42 (dk_at dksX3_line_0 22 rfl rfl)
theorem dX3_line_23 : decode cX3_line 23 = .ok (.iconst 0, 1) := dk_3 (dk_at dksX3_line_0 23 rfl rfl)
theorem dX3_line_24 : decode cX3_line 24 = .ok (.putfield 224, 3) := dk_181 0 224 (dk_at dksX3_line_1 0 rfl rfl)
theorem dX3_line_27 : decode cX3_line 27 = .ok (.aload_n 0, 1) := dk_42 (dk_at dksX3_line_1 3 rfl rfl)
theorem dX3_line_28 : decode cX3_line 28 = .ok (.iload_n 1, 1) := dk_27 (dk_at dksX3_line_1 4 rfl rfl)
theorem dX3_line_29 : decode cX3_line 29 = .ok (.invokevirtual 231, 3) := dk_182 0 231 (dk_at dksX3_line_1 5 rfl rfl)
theorem dX3_line_32 : decode cX3_line 32 = .ok (.aload_n 0, 1) := dk_42 (dk_at dksX3_line_1 8 rfl rfl)
theorem dX3_line_33 : decode cX3_line 33 = .ok (.ldc 234, 2) := dk_18 234 (dk_at dksX3_line_1 9 rfl rfl)
theorem dX3_line_35 : decode cX3_line 35 = .ok (.invokevirtual 236, 3) := dk_182 0 236 (dk_at dksX3_line_1 11 rfl rfl)
theorem dX3_line_38 : decode cX3_line 38 = .ok (.iconst 0, 1) := dk_3 (dk_at dksX3_line_1 14 rfl rfl)
theorem dX3_line_39 : decode cX3_line 39 = .ok (.istore_n 2, 1) := dk_61 (dk_at dksX3_line_1 15 rfl rfl)
theorem dX3_line_40 : decode cX3_line 40 = .ok (.iload_n 2, 1) := dk_28 (dk_at dksX3_line_1 16 rfl rfl)
theorem dX3_line_41 : decode cX3_line 41 = .ok (.aload_n 0, 1) := dk_42 (dk_at dksX3_line_1 17 rfl rfl)
theorem dX3_line_42 : decode cX3_line 42 = .ok (.getfield 9, 3) := dk_180 0 9 (dk_at dksX3_line_1 18 rfl rfl)
theorem dX3_line_45 : decode cX3_line 45 = .ok (.bipush 10, 2) := dk_16 10 (dk_at dksX3_line_1 21 rfl rfl)
theorem dX3_line_47 : decode cX3_line 47 = .ok (.iaload, 1) := dk_46 (dk_at dksX3_line_1 23 rfl rfl)
theorem dX3_line_48 : decode cX3_line 48 = .ok (.if_icmp .ge 67, 3) := dk_162 0 67 (dk_at dksX3_line_2 0 rfl rfl)
theorem dX3_line_51 : decode cX3_line 51 = .ok (.aload_n 0, 1) := dk_42 (dk_at dksX3_line_2 3 rfl rfl)
theorem dX3_line_52 : decode cX3_line 52 = .ok (.iload_n 2, 1) := dk_28 (dk_at dksX3_line_2 4 rfl rfl)
theorem dX3_line_53 : decode cX3_line 53 = .ok (.iconst 1, 1) := dk_4 (dk_at dksX3_line_2 5 rfl rfl)
theorem dX3_line_54 : decode cX3_line 54 = .ok (.invokevirtual 98, 3) := dk_182 0 98 (dk_at dksX3_line_2 6 rfl rfl)
theorem dX3_line_57 : decode cX3_line 57 = .ok (.iload_n 1, 1) := dk_27 (dk_at dksX3_line_2 9 rfl rfl)
theorem dX3_line_58 : decode cX3_line 58 = .ok (.if_icmp .ne 51, 3) := dk_160 0 51 (dk_at dksX3_line_2 10 rfl rfl)
theorem dX3_line_61 : decode cX3_line 61 = .ok (.aload_n 0, 1) := dk_42 (dk_at dksX3_line_2 13 rfl rfl)
theorem dX3_line_62 : decode cX3_line 62 = .ok (.aload_n 0, 1) := dk_42 (dk_at dksX3_line_2 14 rfl rfl)
theorem dX3_line_63 : decode cX3_line 63 = .ok (.iload_n 2, 1) := dk_28 (dk_at dksX3_line_2 15 rfl rfl)
theorem dX3_line_64 : decode cX3_line 64 = .ok (.invokevirtual 101, 3) := dk_182 0 101 (dk_at dksX3_line_2 16 rfl rfl)
theorem dX3_line_67 : decode cX3_line 67 = .ok (.ifCond .eq 8, 3) := dk_153 0 8 (dk_at dksX3_line_2 19 rfl rfl)
theorem dX3_line_70 : decode cX3_line 70 = .ok (.ldc 240, 2) := dk_18 240 (dk_at dksX3_line_2 22 rfl rfl)
theorem dX3_line_72 : decode cX3_line 72 = .ok (.goto 5, 3) := dk_167 0 5 (dk_at dksX3_line_3 0 rfl rfl)
theorem dX3_line_75 : decode cX3_line 75 = .ok (.ldc 242, 2) := dk_18 242 (dk_at dksX3_line_3 3 rfl rfl)
theorem dX3_line_77 : decode cX3_line 77 = .ok (.invokevirtual 236, 3) := dk_182 0 236 (dk_at dksX3_line_3 5 rfl rfl)
theorem dX3_line_80 : decode cX3_line 80 = .ok (.aload_n 0, 1) := dk_42 (dk_at dksX3_line_3 8 rfl rfl)
theorem dX3_line_81 : decode cX3_line 81 = .ok (.iload_n 2, 1) := dk_28 (dk_at dksX3_line_3 9 rfl rfl)
theorem dX3_line_82 : decode cX3_line 82 = .ok (.invokevirtual 231, 3) := dk_182 0 231 (dk_at dksX3_line_3 10 rfl rfl)
theorem dX3_line_85 : decode cX3_line 85 = .ok (.aload_n 0, 1) := dk_42 (dk_at dksX3_line_3 13 rfl rfl)
theorem dX3_line_86 : decode cX3_line 86 = .ok (.iload_n 2, 1) := dk_28 (dk_at dksX3_line_3 14 rfl rfl)
theorem dX3_line_87 : decode cX3_line 87 = .ok (.invokevirtual 134, 3) := dk_182 0 134 (dk_at dksX3_line_3 15 rfl rfl)
theorem dX3_line_90 : decode cX3_line 90 = .ok (.ifCond .eq 19, 3) := dk_153 0 19 (dk_at dksX3_line_3 18 rfl rfl)
theorem dX3_line_93 : decode cX3_line 93 = .ok (.aload_n 0, 1) := dk_42 (dk_at dksX3_line_3 21 rfl rfl)
theorem dX3_line_94 : decode cX3_line 94 = .ok (.ldc 244, 2) := dk_18 244 (dk_at dksX3_line_3 22 rfl rfl)
theorem dX3_line_96 : decode cX3_line 96 = .ok (.invokevirtual 236, 3) := dk_182 0 236 (dk_at dksX3_line_4 0 rfl rfl)
theorem dX3_line_99 : decode cX3_line 99 = .ok (.aload_n 0, 1) := dk_42 (dk_at dksX3_line_4 3 rfl rfl)
theorem dX3_line_100 : decode cX3_line 100 = .ok (.aload_n 0, 1) := dk_42 (dk_at dksX3_line_4 4 rfl rfl)
theorem dX3_line_101 : decode cX3_line 101 = .ok (.iload_n 2, 1) := dk_28 (dk_at dksX3_line_4 5 rfl rfl)
theorem dX3_line_102 : decode cX3_line 102 = .ok (.iconst 2, 1) := dk_5 (dk_at dksX3_line_4 6 rfl rfl)
theorem dX3_line_103 : decode cX3_line 103 = .ok (.invokevirtual 98, 3) := dk_182 0 98 (dk_at dksX3_line_4 7 rfl rfl)
theorem dX3_line_106 : decode cX3_line 106 = .ok (.invokevirtual 231, 3) := dk_182 0 231 (dk_at dksX3_line_4 10 rfl rfl)
theorem dX3_line_109 : decode cX3_line 109 = .ok (.iinc 2 1, 3) := dk_132 2 1 (dk_at dksX3_line_4 13 rfl rfl)
theorem dX3_line_112 : decode cX3_line 112 = .ok (.goto (-72), 3) := dk_167 255 184 (dk_at dksX3_line_4 16 rfl rfl)
theorem dX3_line_115 : decode cX3_line 115 = .ok (.aload_n 0, 1) := dk_42 (dk_at dksX3_line_4 19 rfl rfl)
theorem dX3_line_116 : decode cX3_line 116 = .ok (.getfield 9, 3) := dk_180 0 9 (dk_at dksX3_line_4 20 rfl rfl)
theorem dX3_line_119 : decode cX3_line 119 = .ok (.bipush 13, 2) := dk_16 13 (dk_at dksX3_line_5 0 rfl rfl)
theorem dX3_line_121 : decode cX3_line 121 = .ok (.iload_n 1, 1) := dk_27 (dk_at dksX3_line_5 2 rfl rfl)
theorem dX3_line_122 : decode cX3_line 122 = .ok (.iadd, 1) := dk_96 (dk_at dksX3_line_5 3 rfl rfl)
theorem dX3_line_123 : decode cX3_line 123 = .ok (.iaload, 1) := dk_46 (dk_at dksX3_line_5 4 rfl rfl)
theorem dX3_line_124 : decode cX3_line 124 = .ok (.ifCond .le 22, 3) := dk_158 0 22 (dk_at dksX3_line_5 5 rfl rfl)
theorem dX3_line_127 : decode cX3_line 127 = .ok (.aload_n 0, 1) := dk_42 (dk_at dksX3_line_5 8 rfl rfl)
theorem dX3_line_128 : decode cX3_line 128 = .ok (.ldc 246, 2) := dk_18 246 (dk_at dksX3_line_5 9 rfl rfl)
theorem dX3_line_130 : decode cX3_line 130 = .ok (.invokevirtual 236, 3) := dk_182 0 236 (dk_at dksX3_line_5 11 rfl rfl)
theorem dX3_line_133 : decode cX3_line 133 = .ok (.aload_n 0, 1) := dk_42 (dk_at dksX3_line_5 14 rfl rfl)
theorem dX3_line_134 : decode cX3_line 134 = .ok (.aload_n 0, 1) := dk_42 (dk_at dksX3_line_5 15 rfl rfl)
theorem dX3_line_135 : decode cX3_line 135 = .ok (.getfield 9, 3) := dk_180 0 9 (dk_at dksX3_line_5 16 rfl rfl)
theorem dX3_line_138 : decode cX3_line 138 = .ok (.bipush 13, 2) := dk_16 13 (dk_at dksX3_line_5 19 rfl rfl)
theorem dX3_line_140 : decode cX3_line 140 = .ok (.iload_n 1, 1) := dk_27 (dk_at dksX3_line_5 21 rfl rfl)
theorem dX3_line_141 : decode cX3_line 141 = .ok (.iadd, 1) := dk_96 (dk_at dksX3_line_5 22 rfl rfl)
theorem dX3_line_142 : decode cX3_line 142 = .ok (.iaload, 1) := dk_46 (dk_at dksX3_line_5 23 rfl rfl)
theorem dX3_line_143 : decode cX3_line 143 = .ok (.invokevirtual 231, 3) := dk_182 0 231 (dk_at dksX3_line_6 0 rfl rfl)
theorem dX3_line_146 : decode cX3_line 146 = .ok (.aload_n 0, 1) := dk_42 (dk_at dksX3_line_6 3 rfl rfl)
theorem dX3_line_147 : decode cX3_line 147 = .ok (.aload_n 0, 1) := dk_42 (dk_at dksX3_line_6 4 rfl rfl)
theorem dX3_line_148 : decode cX3_line 148 = .ok (.getfield 9, 3) := dk_180 0 9 (dk_at dksX3_line_6 5 rfl rfl)
theorem dX3_line_151 : decode cX3_line 151 = .ok (.iconst 1, 1) := dk_4 (dk_at dksX3_line_6 8 rfl rfl)
theorem dX3_line_152 : decode cX3_line 152 = .ok (.iaload, 1) := dk_46 (dk_at dksX3_line_6 9 rfl rfl)
theorem dX3_line_153 : decode cX3_line 153 = .ok (.iload_n 1, 1) := dk_27 (dk_at dksX3_line_6 10 rfl rfl)
theorem dX3_line_154 : decode cX3_line 154 = .ok (.if_icmp .ne 8, 3) := dk_160 0 8 (dk_at dksX3_line_6 11 rfl rfl)
theorem dX3_line_157 : decode cX3_line 157 = .ok (.ldc 248, 2) := dk_18 248 (dk_at dksX3_line_6 14 rfl rfl)
theorem dX3_line_159 : decode cX3_line 159 = .ok (.goto 5, 3) := dk_167 0 5 (dk_at dksX3_line_6 16 rfl rfl)
theorem dX3_line_162 : decode cX3_line 162 = .ok (.ldc 250, 2) := dk_18 250 (dk_at dksX3_line_6 19 rfl rfl)
theorem dX3_line_164 : decode cX3_line 164 = .ok (.invokevirtual 236, 3) := dk_182 0 236 (dk_at dksX3_line_6 21 rfl rfl)
theorem dX3_line_167 : decode cX3_line 167 = .ok (.aload_n 0, 1) := dk_42 (dk_at dksX3_line_7 0 rfl rfl)
theorem dX3_line_168 : decode cX3_line 168 = .ok (.getfield 224, 3) := dk_180 0 224 (dk_at dksX3_line_7 1 rfl rfl)
theorem dX3_line_171 : decode cX3_line 171 = .ok (.ireturn, 1) := dk_172 (dk_at dksX3_line_7 4 rfl rfl)
abbrev cX3_writeNumber : ByteArray := prog_14_method_75_code
def yX3_writeNumber : MethodName := ⟨RX3, "writeNumber", "(I)V"⟩
def dkwX3_writeNumber_1 : List UInt8 := [27, 16, 10, 112, 96, 146, 85, 42, 89, 180, 0, 224, 4, 96, 181, 0, 224, 177]
abbrev dktX3_writeNumber_1 : List UInt8 := dkwX3_writeNumber_1 ++ []
def dkwX3_writeNumber_0 : List UInt8 := [27, 16, 9, 164, 0, 11, 42, 27, 16, 10, 108, 182, 0, 231, 42, 180, 0, 30, 42, 180, 0, 224, 16, 48]
abbrev dktX3_writeNumber_0 : List UInt8 := dkwX3_writeNumber_0 ++ dktX3_writeNumber_1
theorem dksX3_writeNumber_0 : cX3_writeNumber.data.toList.drop 0 = dktX3_writeNumber_0 := by decide +kernel
theorem dksX3_writeNumber_1 : cX3_writeNumber.data.toList.drop 24 = dktX3_writeNumber_1 := dk_seg dksX3_writeNumber_0 24 rfl rfl
theorem dX3_writeNumber_0 : decode cX3_writeNumber 0 = .ok (.iload_n 1, 1) := dk_27 (dk_at dksX3_writeNumber_0 0 rfl rfl)
theorem dX3_writeNumber_1 : decode cX3_writeNumber 1 = .ok (.bipush 9, 2) := dk_16 9 (dk_at dksX3_writeNumber_0 1 rfl rfl)
theorem dX3_writeNumber_3 : decode cX3_writeNumber 3 = .ok (.if_icmp .le 11, 3) := dk_164 0 11 (dk_at dksX3_writeNumber_0 3 rfl rfl)
theorem dX3_writeNumber_6 : decode cX3_writeNumber 6 = .ok (.aload_n 0, 1) := dk_42 (dk_at dksX3_writeNumber_0 6 rfl rfl)
theorem dX3_writeNumber_7 : decode cX3_writeNumber 7 = .ok (.iload_n 1, 1) := dk_27 (dk_at dksX3_writeNumber_0 7 rfl rfl)
theorem dX3_writeNumber_8 : decode cX3_writeNumber 8 = .ok (.bipush 10, 2) := dk_16 10 (dk_at dksX3_writeNumber_0 8 rfl rfl)
theorem dX3_writeNumber_10 : decode cX3_writeNumber 10 = .ok (.idiv, 1) := dk_108 (dk_at dksX3_writeNumber_0 10 rfl rfl)
theorem dX3_writeNumber_11 : decode cX3_writeNumber 11 = .ok (.invokevirtual 231, 3) := dk_182 0 231 (dk_at dksX3_writeNumber_0 11 rfl rfl)
theorem dX3_writeNumber_14 : decode cX3_writeNumber 14 = .ok (.aload_n 0, 1) := dk_42 (dk_at dksX3_writeNumber_0 14 rfl rfl)
theorem dX3_writeNumber_15 : decode cX3_writeNumber 15 = .ok (.getfield 30, 3) := dk_180 0 30 (dk_at dksX3_writeNumber_0 15 rfl rfl)
theorem dX3_writeNumber_18 : decode cX3_writeNumber 18 = .ok (.aload_n 0, 1) := dk_42 (dk_at dksX3_writeNumber_0 18 rfl rfl)
theorem dX3_writeNumber_19 : decode cX3_writeNumber 19 = .ok (.getfield 224, 3) := dk_180 0 224 (dk_at dksX3_writeNumber_0 19 rfl rfl)
theorem dX3_writeNumber_22 : decode cX3_writeNumber 22 = .ok (.bipush 48, 2) := dk_16 48 (dk_at dksX3_writeNumber_0 22 rfl rfl)
theorem dX3_writeNumber_24 : decode cX3_writeNumber 24 = .ok (.iload_n 1, 1) := dk_27 (dk_at dksX3_writeNumber_1 0 rfl rfl)
theorem dX3_writeNumber_25 : decode cX3_writeNumber 25 = .ok (.bipush 10, 2) := dk_16 10 (dk_at dksX3_writeNumber_1 1 rfl rfl)
theorem dX3_writeNumber_27 : decode cX3_writeNumber 27 = .ok (.irem, 1) := dk_112 (dk_at dksX3_writeNumber_1 3 rfl rfl)
theorem dX3_writeNumber_28 : decode cX3_writeNumber 28 = .ok (.iadd, 1) := dk_96 (dk_at dksX3_writeNumber_1 4 rfl rfl)
theorem dX3_writeNumber_29 : decode cX3_writeNumber 29 = .ok (.i2c, 1) := dk_146 (dk_at dksX3_writeNumber_1 5 rfl rfl)
theorem dX3_writeNumber_30 : decode cX3_writeNumber 30 = .ok (.castore, 1) := dk_85 (dk_at dksX3_writeNumber_1 6 rfl rfl)
theorem dX3_writeNumber_31 : decode cX3_writeNumber 31 = .ok (.aload_n 0, 1) := dk_42 (dk_at dksX3_writeNumber_1 7 rfl rfl)
theorem dX3_writeNumber_32 : decode cX3_writeNumber 32 = .ok (.dup, 1) := dk_89 (dk_at dksX3_writeNumber_1 8 rfl rfl)
theorem dX3_writeNumber_33 : decode cX3_writeNumber 33 = .ok (.getfield 224, 3) := dk_180 0 224 (dk_at dksX3_writeNumber_1 9 rfl rfl)
theorem dX3_writeNumber_36 : decode cX3_writeNumber 36 = .ok (.iconst 1, 1) := dk_4 (dk_at dksX3_writeNumber_1 12 rfl rfl)
theorem dX3_writeNumber_37 : decode cX3_writeNumber 37 = .ok (.iadd, 1) := dk_96 (dk_at dksX3_writeNumber_1 13 rfl rfl)
theorem dX3_writeNumber_38 : decode cX3_writeNumber 38 = .ok (.putfield 224, 3) := dk_181 0 224 (dk_at dksX3_writeNumber_1 14 rfl rfl)
theorem dX3_writeNumber_41 : decode cX3_writeNumber 41 = .ok (.return_, 1) := dk_177 (dk_at dksX3_writeNumber_1 17 rfl rfl)
abbrev cX3_write : ByteArray := prog_14_method_74_code
def yX3_write : MethodName := ⟨RX3, "write", "(Ljava/lang/String;)V"⟩
def dkwX3_write_1 : List UInt8 := [42, 89, 180, 0, 224, 4, 96, 181, 0, 224, 132, 2, 1, 167, 255, 221, 177]
abbrev dktX3_write_1 : List UInt8 := dkwX3_write_1 ++ []
def dkwX3_write_0 : List UInt8 := [3, 61, 28, 43, 182, 0, 219, 162, 0, 33, 42, 180, 0, 30, 42, 180, 0, 224, 43, 28, 182, 0, 227, 85]
abbrev dktX3_write_0 : List UInt8 := dkwX3_write_0 ++ dktX3_write_1
theorem dksX3_write_0 : cX3_write.data.toList.drop 0 = dktX3_write_0 := by decide +kernel
theorem dksX3_write_1 : cX3_write.data.toList.drop 24 = dktX3_write_1 := dk_seg dksX3_write_0 24 rfl rfl
theorem dX3_write_0 : decode cX3_write 0 = .ok (.iconst 0, 1) := dk_3 (dk_at dksX3_write_0 0 rfl rfl)
theorem dX3_write_1 : decode cX3_write 1 = .ok (.istore_n 2, 1) := dk_61 (dk_at dksX3_write_0 1 rfl rfl)
theorem dX3_write_2 : decode cX3_write 2 = .ok (.iload_n 2, 1) := dk_28 (dk_at dksX3_write_0 2 rfl rfl)
theorem dX3_write_3 : decode cX3_write 3 = .ok (.aload_n 1, 1) := dk_43 (dk_at dksX3_write_0 3 rfl rfl)
theorem dX3_write_4 : decode cX3_write 4 = .ok (.invokevirtual 219, 3) := dk_182 0 219 (dk_at dksX3_write_0 4 rfl rfl)
theorem dX3_write_7 : decode cX3_write 7 = .ok (.if_icmp .ge 33, 3) := dk_162 0 33 (dk_at dksX3_write_0 7 rfl rfl)
theorem dX3_write_10 : decode cX3_write 10 = .ok (.aload_n 0, 1) := dk_42 (dk_at dksX3_write_0 10 rfl rfl)
theorem dX3_write_11 : decode cX3_write 11 = .ok (.getfield 30, 3) := dk_180 0 30 (dk_at dksX3_write_0 11 rfl rfl)
theorem dX3_write_14 : decode cX3_write 14 = .ok (.aload_n 0, 1) := dk_42 (dk_at dksX3_write_0 14 rfl rfl)
theorem dX3_write_15 : decode cX3_write 15 = .ok (.getfield 224, 3) := dk_180 0 224 (dk_at dksX3_write_0 15 rfl rfl)
theorem dX3_write_18 : decode cX3_write 18 = .ok (.aload_n 1, 1) := dk_43 (dk_at dksX3_write_0 18 rfl rfl)
theorem dX3_write_19 : decode cX3_write 19 = .ok (.iload_n 2, 1) := dk_28 (dk_at dksX3_write_0 19 rfl rfl)
theorem dX3_write_20 : decode cX3_write 20 = .ok (.invokevirtual 227, 3) := dk_182 0 227 (dk_at dksX3_write_0 20 rfl rfl)
theorem dX3_write_23 : decode cX3_write 23 = .ok (.castore, 1) := dk_85 (dk_at dksX3_write_0 23 rfl rfl)
theorem dX3_write_24 : decode cX3_write 24 = .ok (.aload_n 0, 1) := dk_42 (dk_at dksX3_write_1 0 rfl rfl)
theorem dX3_write_25 : decode cX3_write 25 = .ok (.dup, 1) := dk_89 (dk_at dksX3_write_1 1 rfl rfl)
theorem dX3_write_26 : decode cX3_write 26 = .ok (.getfield 224, 3) := dk_180 0 224 (dk_at dksX3_write_1 2 rfl rfl)
theorem dX3_write_29 : decode cX3_write 29 = .ok (.iconst 1, 1) := dk_4 (dk_at dksX3_write_1 5 rfl rfl)
theorem dX3_write_30 : decode cX3_write 30 = .ok (.iadd, 1) := dk_96 (dk_at dksX3_write_1 6 rfl rfl)
theorem dX3_write_31 : decode cX3_write 31 = .ok (.putfield 224, 3) := dk_181 0 224 (dk_at dksX3_write_1 7 rfl rfl)
theorem dX3_write_34 : decode cX3_write 34 = .ok (.iinc 2 1, 3) := dk_132 2 1 (dk_at dksX3_write_1 10 rfl rfl)
theorem dX3_write_37 : decode cX3_write 37 = .ok (.goto (-35), 3) := dk_167 255 221 (dk_at dksX3_write_1 13 rfl rfl)
theorem dX3_write_40 : decode cX3_write 40 = .ok (.return_, 1) := dk_177 (dk_at dksX3_write_1 16 rfl rfl)
abbrev cX3_character : ByteArray := prog_14_method_77_code
def yX3_character : MethodName := ⟨RX3, "character", "(I)C"⟩
def dkwX3_character_1 : List UInt8 := [153, 0, 8, 16, 32, 167, 0, 9, 42, 180, 0, 30, 27, 52, 172]
abbrev dktX3_character_1 : List UInt8 := dkwX3_character_1 ++ []
def dkwX3_character_0 : List UInt8 := [42, 4, 27, 3, 42, 180, 0, 224, 4, 100, 184, 0, 68, 154, 0, 7, 4, 167, 0, 4, 3, 182, 0, 94]
abbrev dktX3_character_0 : List UInt8 := dkwX3_character_0 ++ dktX3_character_1
theorem dksX3_character_0 : cX3_character.data.toList.drop 0 = dktX3_character_0 := by decide +kernel
theorem dksX3_character_1 : cX3_character.data.toList.drop 24 = dktX3_character_1 := dk_seg dksX3_character_0 24 rfl rfl
theorem dX3_character_0 : decode cX3_character 0 = .ok (.aload_n 0, 1) := dk_42 (dk_at dksX3_character_0 0 rfl rfl)
theorem dX3_character_1 : decode cX3_character 1 = .ok (.iconst 1, 1) := dk_4 (dk_at dksX3_character_0 1 rfl rfl)
theorem dX3_character_2 : decode cX3_character 2 = .ok (.iload_n 1, 1) := dk_27 (dk_at dksX3_character_0 2 rfl rfl)
theorem dX3_character_3 : decode cX3_character 3 = .ok (.iconst 0, 1) := dk_3 (dk_at dksX3_character_0 3 rfl rfl)
theorem dX3_character_4 : decode cX3_character 4 = .ok (.aload_n 0, 1) := dk_42 (dk_at dksX3_character_0 4 rfl rfl)
theorem dX3_character_5 : decode cX3_character 5 = .ok (.getfield 224, 3) := dk_180 0 224 (dk_at dksX3_character_0 5 rfl rfl)
theorem dX3_character_8 : decode cX3_character 8 = .ok (.iconst 1, 1) := dk_4 (dk_at dksX3_character_0 8 rfl rfl)
theorem dX3_character_9 : decode cX3_character 9 = .ok (.isub, 1) := dk_100 (dk_at dksX3_character_0 9 rfl rfl)
theorem dX3_character_10 : decode cX3_character 10 = .ok (.invokestatic 68, 3) := dk_184 0 68 (dk_at dksX3_character_0 10 rfl rfl)
theorem dX3_character_13 : decode cX3_character 13 = .ok (.ifCond .ne 7, 3) := dk_154 0 7 (dk_at dksX3_character_0 13 rfl rfl)
theorem dX3_character_16 : decode cX3_character 16 = .ok (.iconst 1, 1) := dk_4 (dk_at dksX3_character_0 16 rfl rfl)
theorem dX3_character_17 : decode cX3_character 17 = .ok (.goto 4, 3) := dk_167 0 4 (dk_at dksX3_character_0 17 rfl rfl)
theorem dX3_character_20 : decode cX3_character 20 = .ok (.iconst 0, 1) := dk_3 (dk_at dksX3_character_0 20 rfl rfl)
theorem dX3_character_21 : decode cX3_character 21 = .ok (.invokevirtual 94, 3) := dk_182 0 94 (dk_at dksX3_character_0 21 rfl rfl)
theorem dX3_character_24 : decode cX3_character 24 = .ok (.ifCond .eq 8, 3) := dk_153 0 8 (dk_at dksX3_character_1 0 rfl rfl)
theorem dX3_character_27 : decode cX3_character 27 = .ok (.bipush 32, 2) := dk_16 32 (dk_at dksX3_character_1 3 rfl rfl)
theorem dX3_character_29 : decode cX3_character 29 = .ok (.goto 9, 3) := dk_167 0 9 (dk_at dksX3_character_1 5 rfl rfl)
theorem dX3_character_32 : decode cX3_character 32 = .ok (.aload_n 0, 1) := dk_42 (dk_at dksX3_character_1 8 rfl rfl)
theorem dX3_character_33 : decode cX3_character 33 = .ok (.getfield 30, 3) := dk_180 0 30 (dk_at dksX3_character_1 9 rfl rfl)
theorem dX3_character_36 : decode cX3_character 36 = .ok (.iload_n 1, 1) := dk_27 (dk_at dksX3_character_1 12 rfl rfl)
theorem dX3_character_37 : decode cX3_character 37 = .ok (.caload, 1) := dk_52 (dk_at dksX3_character_1 13 rfl rfl)
theorem dX3_character_38 : decode cX3_character 38 = .ok (.ireturn, 1) := dk_172 (dk_at dksX3_character_1 14 rfl rfl)
abbrev cX3_number : ByteArray := prog_14_method_83_code
def yX3_number : MethodName := ⟨RX3, "number", "(I)I"⟩
def dkwX3_number_6 : List UInt8 := [182, 1, 10, 172]
abbrev dktX3_number_6 : List UInt8 := dkwX3_number_6 ++ []
def dkwX3_number_5 : List UInt8 := [180, 0, 9, 16, 8, 46, 172, 42, 180, 0, 9, 16, 9, 46, 172, 42, 182, 1, 7, 172, 42, 27]
abbrev dktX3_number_5 : List UInt8 := dkwX3_number_5 ++ dktX3_number_6
def dkwX3_number_4 : List UInt8 := [16, 10, 46, 42, 182, 1, 1, 100, 172, 42, 182, 1, 4, 172, 42, 180, 0, 9, 16, 7, 46, 172, 42]
abbrev dktX3_number_4 : List UInt8 := dkwX3_number_4 ++ dktX3_number_5
def dkwX3_number_3 : List UInt8 := [42, 180, 0, 9, 3, 46, 172, 42, 182, 0, 185, 172, 42, 180, 0, 9, 16, 10, 46, 172, 42, 180, 0, 9]
abbrev dktX3_number_3 : List UInt8 := dkwX3_number_3 ++ dktX3_number_4
def dkwX3_number_2 : List UInt8 := [170, 0, 0, 0, 0, 117, 0, 0, 0, 0, 0, 0, 0, 8, 0, 0, 0, 50, 0, 0, 0, 57, 0, 0, 0, 62, 0, 0, 0, 70, 0, 0, 0, 83, 0, 0, 0, 88, 0, 0, 0, 96, 0, 0, 0, 104, 0, 0, 0, 112]
abbrev dktX3_number_2 : List UInt8 := dkwX3_number_2 ++ dktX3_number_3
def dkwX3_number_1 : List UInt8 := [172, 27]
abbrev dktX3_number_1 : List UInt8 := dkwX3_number_1 ++ dktX3_number_2
def dkwX3_number_0 : List UInt8 := [42, 4, 27, 3, 16, 18, 184, 0, 68, 154, 0, 7, 4, 167, 0, 4, 3, 182, 0, 94, 153, 0, 5, 3]
abbrev dktX3_number_0 : List UInt8 := dkwX3_number_0 ++ dktX3_number_1
theorem dksX3_number_0 : cX3_number.data.toList.drop 0 = dktX3_number_0 := by decide +kernel
theorem dksX3_number_1 : cX3_number.data.toList.drop 24 = dktX3_number_1 := dk_seg dksX3_number_0 24 rfl rfl
theorem dksX3_number_2 : cX3_number.data.toList.drop 26 = dktX3_number_2 := dk_seg dksX3_number_1 2 rfl rfl
theorem dksX3_number_3 : cX3_number.data.toList.drop 76 = dktX3_number_3 := dk_seg dksX3_number_2 50 rfl rfl
theorem dksX3_number_4 : cX3_number.data.toList.drop 100 = dktX3_number_4 := dk_seg dksX3_number_3 24 rfl rfl
theorem dksX3_number_5 : cX3_number.data.toList.drop 123 = dktX3_number_5 := dk_seg dksX3_number_4 23 rfl rfl
theorem dksX3_number_6 : cX3_number.data.toList.drop 145 = dktX3_number_6 := dk_seg dksX3_number_5 22 rfl rfl
theorem dX3_number_0 : decode cX3_number 0 = .ok (.aload_n 0, 1) := dk_42 (dk_at dksX3_number_0 0 rfl rfl)
theorem dX3_number_1 : decode cX3_number 1 = .ok (.iconst 1, 1) := dk_4 (dk_at dksX3_number_0 1 rfl rfl)
theorem dX3_number_2 : decode cX3_number 2 = .ok (.iload_n 1, 1) := dk_27 (dk_at dksX3_number_0 2 rfl rfl)
theorem dX3_number_3 : decode cX3_number 3 = .ok (.iconst 0, 1) := dk_3 (dk_at dksX3_number_0 3 rfl rfl)
theorem dX3_number_4 : decode cX3_number 4 = .ok (.bipush 18, 2) := dk_16 18 (dk_at dksX3_number_0 4 rfl rfl)
theorem dX3_number_6 : decode cX3_number 6 = .ok (.invokestatic 68, 3) := dk_184 0 68 (dk_at dksX3_number_0 6 rfl rfl)
theorem dX3_number_9 : decode cX3_number 9 = .ok (.ifCond .ne 7, 3) := dk_154 0 7 (dk_at dksX3_number_0 9 rfl rfl)
theorem dX3_number_12 : decode cX3_number 12 = .ok (.iconst 1, 1) := dk_4 (dk_at dksX3_number_0 12 rfl rfl)
theorem dX3_number_13 : decode cX3_number 13 = .ok (.goto 4, 3) := dk_167 0 4 (dk_at dksX3_number_0 13 rfl rfl)
theorem dX3_number_16 : decode cX3_number 16 = .ok (.iconst 0, 1) := dk_3 (dk_at dksX3_number_0 16 rfl rfl)
theorem dX3_number_17 : decode cX3_number 17 = .ok (.invokevirtual 94, 3) := dk_182 0 94 (dk_at dksX3_number_0 17 rfl rfl)
theorem dX3_number_20 : decode cX3_number 20 = .ok (.ifCond .eq 5, 3) := dk_153 0 5 (dk_at dksX3_number_0 20 rfl rfl)
theorem dX3_number_23 : decode cX3_number 23 = .ok (.iconst 0, 1) := dk_3 (dk_at dksX3_number_0 23 rfl rfl)
theorem dX3_number_24 : decode cX3_number 24 = .ok (.ireturn, 1) := dk_172 (dk_at dksX3_number_1 0 rfl rfl)
theorem dX3_number_25 : decode cX3_number 25 = .ok (.iload_n 1, 1) := dk_27 (dk_at dksX3_number_1 1 rfl rfl)
theorem dX3_number_26 : decode cX3_number 26 = .ok (.tableswitch 117 0 8 #[50, 57, 62, 70, 83, 88, 96, 104, 112], 50) := by decide +kernel
theorem dX3_number_76 : decode cX3_number 76 = .ok (.aload_n 0, 1) := dk_42 (dk_at dksX3_number_3 0 rfl rfl)
theorem dX3_number_77 : decode cX3_number 77 = .ok (.getfield 9, 3) := dk_180 0 9 (dk_at dksX3_number_3 1 rfl rfl)
theorem dX3_number_80 : decode cX3_number 80 = .ok (.iconst 0, 1) := dk_3 (dk_at dksX3_number_3 4 rfl rfl)
theorem dX3_number_81 : decode cX3_number 81 = .ok (.iaload, 1) := dk_46 (dk_at dksX3_number_3 5 rfl rfl)
theorem dX3_number_82 : decode cX3_number 82 = .ok (.ireturn, 1) := dk_172 (dk_at dksX3_number_3 6 rfl rfl)
theorem dX3_number_83 : decode cX3_number 83 = .ok (.aload_n 0, 1) := dk_42 (dk_at dksX3_number_3 7 rfl rfl)
theorem dX3_number_84 : decode cX3_number 84 = .ok (.invokevirtual 185, 3) := dk_182 0 185 (dk_at dksX3_number_3 8 rfl rfl)
theorem dX3_number_87 : decode cX3_number 87 = .ok (.ireturn, 1) := dk_172 (dk_at dksX3_number_3 11 rfl rfl)
theorem dX3_number_88 : decode cX3_number 88 = .ok (.aload_n 0, 1) := dk_42 (dk_at dksX3_number_3 12 rfl rfl)
theorem dX3_number_89 : decode cX3_number 89 = .ok (.getfield 9, 3) := dk_180 0 9 (dk_at dksX3_number_3 13 rfl rfl)
theorem dX3_number_92 : decode cX3_number 92 = .ok (.bipush 10, 2) := dk_16 10 (dk_at dksX3_number_3 16 rfl rfl)
theorem dX3_number_94 : decode cX3_number 94 = .ok (.iaload, 1) := dk_46 (dk_at dksX3_number_3 18 rfl rfl)
theorem dX3_number_95 : decode cX3_number 95 = .ok (.ireturn, 1) := dk_172 (dk_at dksX3_number_3 19 rfl rfl)
theorem dX3_number_96 : decode cX3_number 96 = .ok (.aload_n 0, 1) := dk_42 (dk_at dksX3_number_3 20 rfl rfl)
theorem dX3_number_97 : decode cX3_number 97 = .ok (.getfield 9, 3) := dk_180 0 9 (dk_at dksX3_number_3 21 rfl rfl)
theorem dX3_number_100 : decode cX3_number 100 = .ok (.bipush 10, 2) := dk_16 10 (dk_at dksX3_number_4 0 rfl rfl)
theorem dX3_number_102 : decode cX3_number 102 = .ok (.iaload, 1) := dk_46 (dk_at dksX3_number_4 2 rfl rfl)
theorem dX3_number_103 : decode cX3_number 103 = .ok (.aload_n 0, 1) := dk_42 (dk_at dksX3_number_4 3 rfl rfl)
theorem dX3_number_104 : decode cX3_number 104 = .ok (.invokevirtual 257, 3) := dk_182 1 1 (dk_at dksX3_number_4 4 rfl rfl)
theorem dX3_number_107 : decode cX3_number 107 = .ok (.isub, 1) := dk_100 (dk_at dksX3_number_4 7 rfl rfl)
theorem dX3_number_108 : decode cX3_number 108 = .ok (.ireturn, 1) := dk_172 (dk_at dksX3_number_4 8 rfl rfl)
theorem dX3_number_109 : decode cX3_number 109 = .ok (.aload_n 0, 1) := dk_42 (dk_at dksX3_number_4 9 rfl rfl)
theorem dX3_number_110 : decode cX3_number 110 = .ok (.invokevirtual 260, 3) := dk_182 1 4 (dk_at dksX3_number_4 10 rfl rfl)
theorem dX3_number_113 : decode cX3_number 113 = .ok (.ireturn, 1) := dk_172 (dk_at dksX3_number_4 13 rfl rfl)
theorem dX3_number_114 : decode cX3_number 114 = .ok (.aload_n 0, 1) := dk_42 (dk_at dksX3_number_4 14 rfl rfl)
theorem dX3_number_115 : decode cX3_number 115 = .ok (.getfield 9, 3) := dk_180 0 9 (dk_at dksX3_number_4 15 rfl rfl)
theorem dX3_number_118 : decode cX3_number 118 = .ok (.bipush 7, 2) := dk_16 7 (dk_at dksX3_number_4 18 rfl rfl)
theorem dX3_number_120 : decode cX3_number 120 = .ok (.iaload, 1) := dk_46 (dk_at dksX3_number_4 20 rfl rfl)
theorem dX3_number_121 : decode cX3_number 121 = .ok (.ireturn, 1) := dk_172 (dk_at dksX3_number_4 21 rfl rfl)
theorem dX3_number_122 : decode cX3_number 122 = .ok (.aload_n 0, 1) := dk_42 (dk_at dksX3_number_4 22 rfl rfl)
theorem dX3_number_123 : decode cX3_number 123 = .ok (.getfield 9, 3) := dk_180 0 9 (dk_at dksX3_number_5 0 rfl rfl)
theorem dX3_number_126 : decode cX3_number 126 = .ok (.bipush 8, 2) := dk_16 8 (dk_at dksX3_number_5 3 rfl rfl)
theorem dX3_number_128 : decode cX3_number 128 = .ok (.iaload, 1) := dk_46 (dk_at dksX3_number_5 5 rfl rfl)
theorem dX3_number_129 : decode cX3_number 129 = .ok (.ireturn, 1) := dk_172 (dk_at dksX3_number_5 6 rfl rfl)
theorem dX3_number_130 : decode cX3_number 130 = .ok (.aload_n 0, 1) := dk_42 (dk_at dksX3_number_5 7 rfl rfl)
theorem dX3_number_131 : decode cX3_number 131 = .ok (.getfield 9, 3) := dk_180 0 9 (dk_at dksX3_number_5 8 rfl rfl)
theorem dX3_number_134 : decode cX3_number 134 = .ok (.bipush 9, 2) := dk_16 9 (dk_at dksX3_number_5 11 rfl rfl)
theorem dX3_number_136 : decode cX3_number 136 = .ok (.iaload, 1) := dk_46 (dk_at dksX3_number_5 13 rfl rfl)
theorem dX3_number_137 : decode cX3_number 137 = .ok (.ireturn, 1) := dk_172 (dk_at dksX3_number_5 14 rfl rfl)
theorem dX3_number_138 : decode cX3_number 138 = .ok (.aload_n 0, 1) := dk_42 (dk_at dksX3_number_5 15 rfl rfl)
theorem dX3_number_139 : decode cX3_number 139 = .ok (.invokevirtual 263, 3) := dk_182 1 7 (dk_at dksX3_number_5 16 rfl rfl)
theorem dX3_number_142 : decode cX3_number 142 = .ok (.ireturn, 1) := dk_172 (dk_at dksX3_number_5 19 rfl rfl)
theorem dX3_number_143 : decode cX3_number 143 = .ok (.aload_n 0, 1) := dk_42 (dk_at dksX3_number_5 20 rfl rfl)
theorem dX3_number_144 : decode cX3_number 144 = .ok (.iload_n 1, 1) := dk_27 (dk_at dksX3_number_5 21 rfl rfl)
theorem dX3_number_145 : decode cX3_number 145 = .ok (.invokevirtual 266, 3) := dk_182 1 10 (dk_at dksX3_number_6 0 rfl rfl)
theorem dX3_number_148 : decode cX3_number 148 = .ok (.ireturn, 1) := dk_172 (dk_at dksX3_number_6 3 rfl rfl)
abbrev cX3_hens : ByteArray := prog_14_method_79_code
def yX3_hens : MethodName := ⟨RX3, "hens", "()I"⟩
def dkwX3_hens_0 : List UInt8 := [42, 16, 34, 16, 6, 42, 180, 0, 9, 16, 10, 46, 182, 0, 252, 172]
abbrev dktX3_hens_0 : List UInt8 := dkwX3_hens_0 ++ []
theorem dksX3_hens_0 : cX3_hens.data.toList.drop 0 = dktX3_hens_0 := by decide +kernel
theorem dX3_hens_0 : decode cX3_hens 0 = .ok (.aload_n 0, 1) := dk_42 (dk_at dksX3_hens_0 0 rfl rfl)
theorem dX3_hens_1 : decode cX3_hens 1 = .ok (.bipush 34, 2) := dk_16 34 (dk_at dksX3_hens_0 1 rfl rfl)
theorem dX3_hens_3 : decode cX3_hens 3 = .ok (.bipush 6, 2) := dk_16 6 (dk_at dksX3_hens_0 3 rfl rfl)
theorem dX3_hens_5 : decode cX3_hens 5 = .ok (.aload_n 0, 1) := dk_42 (dk_at dksX3_hens_0 5 rfl rfl)
theorem dX3_hens_6 : decode cX3_hens 6 = .ok (.getfield 9, 3) := dk_180 0 9 (dk_at dksX3_hens_0 6 rfl rfl)
theorem dX3_hens_9 : decode cX3_hens 9 = .ok (.bipush 10, 2) := dk_16 10 (dk_at dksX3_hens_0 9 rfl rfl)
theorem dX3_hens_11 : decode cX3_hens 11 = .ok (.iaload, 1) := dk_46 (dk_at dksX3_hens_0 11 rfl rfl)
theorem dX3_hens_12 : decode cX3_hens 12 = .ok (.invokevirtual 252, 3) := dk_182 0 252 (dk_at dksX3_hens_0 12 rfl rfl)
theorem dX3_hens_15 : decode cX3_hens 15 = .ok (.ireturn, 1) := dk_172 (dk_at dksX3_hens_0 15 rfl rfl)
abbrev cX3_sum : ByteArray := prog_14_method_78_code
def yX3_sum : MethodName := ⟨RX3, "sum", "(III)I"⟩
def dkwX3_sum_1 : List UInt8 := [46, 96, 54, 4, 132, 5, 1, 167, 255, 231, 21, 4, 172]
abbrev dktX3_sum_1 : List UInt8 := dkwX3_sum_1 ++ []
def dkwX3_sum_0 : List UInt8 := [3, 54, 4, 3, 54, 5, 21, 5, 29, 162, 0, 25, 21, 4, 42, 180, 0, 9, 27, 28, 21, 5, 104, 96]
abbrev dktX3_sum_0 : List UInt8 := dkwX3_sum_0 ++ dktX3_sum_1
theorem dksX3_sum_0 : cX3_sum.data.toList.drop 0 = dktX3_sum_0 := by decide +kernel
theorem dksX3_sum_1 : cX3_sum.data.toList.drop 24 = dktX3_sum_1 := dk_seg dksX3_sum_0 24 rfl rfl
theorem dX3_sum_0 : decode cX3_sum 0 = .ok (.iconst 0, 1) := dk_3 (dk_at dksX3_sum_0 0 rfl rfl)
theorem dX3_sum_1 : decode cX3_sum 1 = .ok (.istore 4, 2) := dk_54 4 (dk_at dksX3_sum_0 1 rfl rfl)
theorem dX3_sum_3 : decode cX3_sum 3 = .ok (.iconst 0, 1) := dk_3 (dk_at dksX3_sum_0 3 rfl rfl)
theorem dX3_sum_4 : decode cX3_sum 4 = .ok (.istore 5, 2) := dk_54 5 (dk_at dksX3_sum_0 4 rfl rfl)
theorem dX3_sum_6 : decode cX3_sum 6 = .ok (.iload 5, 2) := dk_21 5 (dk_at dksX3_sum_0 6 rfl rfl)
theorem dX3_sum_8 : decode cX3_sum 8 = .ok (.iload_n 3, 1) := dk_29 (dk_at dksX3_sum_0 8 rfl rfl)
theorem dX3_sum_9 : decode cX3_sum 9 = .ok (.if_icmp .ge 25, 3) := dk_162 0 25 (dk_at dksX3_sum_0 9 rfl rfl)
theorem dX3_sum_12 : decode cX3_sum 12 = .ok (.iload 4, 2) := dk_21 4 (dk_at dksX3_sum_0 12 rfl rfl)
theorem dX3_sum_14 : decode cX3_sum 14 = .ok (.aload_n 0, 1) := dk_42 (dk_at dksX3_sum_0 14 rfl rfl)
theorem dX3_sum_15 : decode cX3_sum 15 = .ok (.getfield 9, 3) := dk_180 0 9 (dk_at dksX3_sum_0 15 rfl rfl)
theorem dX3_sum_18 : decode cX3_sum 18 = .ok (.iload_n 1, 1) := dk_27 (dk_at dksX3_sum_0 18 rfl rfl)
theorem dX3_sum_19 : decode cX3_sum 19 = .ok (.iload_n 2, 1) := dk_28 (dk_at dksX3_sum_0 19 rfl rfl)
theorem dX3_sum_20 : decode cX3_sum 20 = .ok (.iload 5, 2) := dk_21 5 (dk_at dksX3_sum_0 20 rfl rfl)
theorem dX3_sum_22 : decode cX3_sum 22 = .ok (.imul, 1) := dk_104 (dk_at dksX3_sum_0 22 rfl rfl)
theorem dX3_sum_23 : decode cX3_sum 23 = .ok (.iadd, 1) := dk_96 (dk_at dksX3_sum_0 23 rfl rfl)
theorem dX3_sum_24 : decode cX3_sum 24 = .ok (.iaload, 1) := dk_46 (dk_at dksX3_sum_1 0 rfl rfl)
theorem dX3_sum_25 : decode cX3_sum 25 = .ok (.iadd, 1) := dk_96 (dk_at dksX3_sum_1 1 rfl rfl)
theorem dX3_sum_26 : decode cX3_sum 26 = .ok (.istore 4, 2) := dk_54 4 (dk_at dksX3_sum_1 2 rfl rfl)
theorem dX3_sum_28 : decode cX3_sum 28 = .ok (.iinc 5 1, 3) := dk_132 5 1 (dk_at dksX3_sum_1 4 rfl rfl)
theorem dX3_sum_31 : decode cX3_sum 31 = .ok (.goto (-25), 3) := dk_167 255 231 (dk_at dksX3_sum_1 7 rfl rfl)
theorem dX3_sum_34 : decode cX3_sum 34 = .ok (.iload 4, 2) := dk_21 4 (dk_at dksX3_sum_1 10 rfl rfl)
theorem dX3_sum_36 : decode cX3_sum 36 = .ok (.ireturn, 1) := dk_172 (dk_at dksX3_sum_1 12 rfl rfl)
abbrev cX3_eggs : ByteArray := prog_14_method_80_code
def yX3_eggs : MethodName := ⟨RX3, "eggs", "()I"⟩
def dkwX3_eggs_1 : List UInt8 := [42, 28, 5, 182, 0, 98, 167, 0, 4, 3, 96, 60, 132, 2, 1, 167, 255, 221, 27, 172]
abbrev dktX3_eggs_1 : List UInt8 := dkwX3_eggs_1 ++ []
def dkwX3_eggs_0 : List UInt8 := [3, 60, 3, 61, 28, 42, 180, 0, 9, 16, 10, 46, 162, 0, 30, 27, 42, 28, 182, 0, 101, 153, 0, 12]
abbrev dktX3_eggs_0 : List UInt8 := dkwX3_eggs_0 ++ dktX3_eggs_1
theorem dksX3_eggs_0 : cX3_eggs.data.toList.drop 0 = dktX3_eggs_0 := by decide +kernel
theorem dksX3_eggs_1 : cX3_eggs.data.toList.drop 24 = dktX3_eggs_1 := dk_seg dksX3_eggs_0 24 rfl rfl
theorem dX3_eggs_0 : decode cX3_eggs 0 = .ok (.iconst 0, 1) := dk_3 (dk_at dksX3_eggs_0 0 rfl rfl)
theorem dX3_eggs_1 : decode cX3_eggs 1 = .ok (.istore_n 1, 1) := dk_60 (dk_at dksX3_eggs_0 1 rfl rfl)
theorem dX3_eggs_2 : decode cX3_eggs 2 = .ok (.iconst 0, 1) := dk_3 (dk_at dksX3_eggs_0 2 rfl rfl)
theorem dX3_eggs_3 : decode cX3_eggs 3 = .ok (.istore_n 2, 1) := dk_61 (dk_at dksX3_eggs_0 3 rfl rfl)
theorem dX3_eggs_4 : decode cX3_eggs 4 = .ok (.iload_n 2, 1) := dk_28 (dk_at dksX3_eggs_0 4 rfl rfl)
theorem dX3_eggs_5 : decode cX3_eggs 5 = .ok (.aload_n 0, 1) := dk_42 (dk_at dksX3_eggs_0 5 rfl rfl)
theorem dX3_eggs_6 : decode cX3_eggs 6 = .ok (.getfield 9, 3) := dk_180 0 9 (dk_at dksX3_eggs_0 6 rfl rfl)
theorem dX3_eggs_9 : decode cX3_eggs 9 = .ok (.bipush 10, 2) := dk_16 10 (dk_at dksX3_eggs_0 9 rfl rfl)
theorem dX3_eggs_11 : decode cX3_eggs 11 = .ok (.iaload, 1) := dk_46 (dk_at dksX3_eggs_0 11 rfl rfl)
theorem dX3_eggs_12 : decode cX3_eggs 12 = .ok (.if_icmp .ge 30, 3) := dk_162 0 30 (dk_at dksX3_eggs_0 12 rfl rfl)
theorem dX3_eggs_15 : decode cX3_eggs 15 = .ok (.iload_n 1, 1) := dk_27 (dk_at dksX3_eggs_0 15 rfl rfl)
theorem dX3_eggs_16 : decode cX3_eggs 16 = .ok (.aload_n 0, 1) := dk_42 (dk_at dksX3_eggs_0 16 rfl rfl)
theorem dX3_eggs_17 : decode cX3_eggs 17 = .ok (.iload_n 2, 1) := dk_28 (dk_at dksX3_eggs_0 17 rfl rfl)
theorem dX3_eggs_18 : decode cX3_eggs 18 = .ok (.invokevirtual 101, 3) := dk_182 0 101 (dk_at dksX3_eggs_0 18 rfl rfl)
theorem dX3_eggs_21 : decode cX3_eggs 21 = .ok (.ifCond .eq 12, 3) := dk_153 0 12 (dk_at dksX3_eggs_0 21 rfl rfl)
theorem dX3_eggs_24 : decode cX3_eggs 24 = .ok (.aload_n 0, 1) := dk_42 (dk_at dksX3_eggs_1 0 rfl rfl)
theorem dX3_eggs_25 : decode cX3_eggs 25 = .ok (.iload_n 2, 1) := dk_28 (dk_at dksX3_eggs_1 1 rfl rfl)
theorem dX3_eggs_26 : decode cX3_eggs 26 = .ok (.iconst 2, 1) := dk_5 (dk_at dksX3_eggs_1 2 rfl rfl)
theorem dX3_eggs_27 : decode cX3_eggs 27 = .ok (.invokevirtual 98, 3) := dk_182 0 98 (dk_at dksX3_eggs_1 3 rfl rfl)
theorem dX3_eggs_30 : decode cX3_eggs 30 = .ok (.goto 4, 3) := dk_167 0 4 (dk_at dksX3_eggs_1 6 rfl rfl)
theorem dX3_eggs_33 : decode cX3_eggs 33 = .ok (.iconst 0, 1) := dk_3 (dk_at dksX3_eggs_1 9 rfl rfl)
theorem dX3_eggs_34 : decode cX3_eggs 34 = .ok (.iadd, 1) := dk_96 (dk_at dksX3_eggs_1 10 rfl rfl)
theorem dX3_eggs_35 : decode cX3_eggs 35 = .ok (.istore_n 1, 1) := dk_60 (dk_at dksX3_eggs_1 11 rfl rfl)
theorem dX3_eggs_36 : decode cX3_eggs 36 = .ok (.iinc 2 1, 3) := dk_132 2 1 (dk_at dksX3_eggs_1 12 rfl rfl)
theorem dX3_eggs_39 : decode cX3_eggs 39 = .ok (.goto (-35), 3) := dk_167 255 221 (dk_at dksX3_eggs_1 15 rfl rfl)
theorem dX3_eggs_42 : decode cX3_eggs 42 = .ok (.iload_n 1, 1) := dk_27 (dk_at dksX3_eggs_1 18 rfl rfl)
theorem dX3_eggs_43 : decode cX3_eggs 43 = .ok (.ireturn, 1) := dk_172 (dk_at dksX3_eggs_1 19 rfl rfl)
abbrev cX3_lying : ByteArray := prog_14_method_81_code
def yX3_lying : MethodName := ⟨RX3, "lying", "()I"⟩
def dkwX3_lying_0 : List UInt8 := [42, 16, 13, 4, 16, 9, 182, 0, 252, 172]
abbrev dktX3_lying_0 : List UInt8 := dkwX3_lying_0 ++ []
theorem dksX3_lying_0 : cX3_lying.data.toList.drop 0 = dktX3_lying_0 := by decide +kernel
theorem dX3_lying_0 : decode cX3_lying 0 = .ok (.aload_n 0, 1) := dk_42 (dk_at dksX3_lying_0 0 rfl rfl)
theorem dX3_lying_1 : decode cX3_lying 1 = .ok (.bipush 13, 2) := dk_16 13 (dk_at dksX3_lying_0 1 rfl rfl)
theorem dX3_lying_3 : decode cX3_lying 3 = .ok (.iconst 1, 1) := dk_4 (dk_at dksX3_lying_0 3 rfl rfl)
theorem dX3_lying_4 : decode cX3_lying 4 = .ok (.bipush 9, 2) := dk_16 9 (dk_at dksX3_lying_0 4 rfl rfl)
theorem dX3_lying_6 : decode cX3_lying 6 = .ok (.invokevirtual 252, 3) := dk_182 0 252 (dk_at dksX3_lying_0 6 rfl rfl)
theorem dX3_lying_9 : decode cX3_lying 9 = .ok (.ireturn, 1) := dk_172 (dk_at dksX3_lying_0 9 rfl rfl)
abbrev cX3_otherNumber : ByteArray := prog_14_method_82_code
def yX3_otherNumber : MethodName := ⟨RX3, "otherNumber", "(I)I"⟩
def dkwX3_otherNumber_5 : List UInt8 := [180, 0, 53, 172, 42, 180, 0, 255, 172]
abbrev dktX3_otherNumber_5 : List UInt8 := dkwX3_otherNumber_5 ++ []
def dkwX3_otherNumber_4 : List UInt8 := [16, 12, 46, 182, 0, 252, 172, 42, 180, 0, 9, 5, 46, 172, 42, 180, 0, 9, 16, 6, 46, 172, 42]
abbrev dktX3_otherNumber_4 : List UInt8 := dkwX3_otherNumber_4 ++ dktX3_otherNumber_5
def dkwX3_otherNumber_3 : List UInt8 := [180, 0, 9, 16, 11, 46, 172, 42, 180, 0, 9, 16, 12, 46, 172, 42, 16, 119, 6, 42, 180, 0, 9]
abbrev dktX3_otherNumber_3 : List UInt8 := dkwX3_otherNumber_3 ++ dktX3_otherNumber_4
def dkwX3_otherNumber_2 : List UInt8 := [42, 180, 0, 9, 6, 46, 172, 42, 180, 0, 9, 7, 46, 172, 42, 180, 0, 9, 8, 46, 172, 42]
abbrev dktX3_otherNumber_2 : List UInt8 := dkwX3_otherNumber_2 ++ dktX3_otherNumber_3
def dkwX3_otherNumber_1 : List UInt8 := [170, 0, 0, 0, 0, 0, 123, 0, 0, 0, 9, 0, 0, 0, 17, 0, 0, 0, 51, 0, 0, 0, 58, 0, 0, 0, 65, 0, 0, 0, 72, 0, 0, 0, 80, 0, 0, 0, 88, 0, 0, 0, 103, 0, 0, 0, 110, 0, 0, 0, 118]
abbrev dktX3_otherNumber_1 : List UInt8 := dkwX3_otherNumber_1 ++ dktX3_otherNumber_2
def dkwX3_otherNumber_0 : List UInt8 := [27]
abbrev dktX3_otherNumber_0 : List UInt8 := dkwX3_otherNumber_0 ++ dktX3_otherNumber_1
theorem dksX3_otherNumber_0 : cX3_otherNumber.data.toList.drop 0 = dktX3_otherNumber_0 := by decide +kernel
theorem dksX3_otherNumber_1 : cX3_otherNumber.data.toList.drop 1 = dktX3_otherNumber_1 := dk_seg dksX3_otherNumber_0 1 rfl rfl
theorem dksX3_otherNumber_2 : cX3_otherNumber.data.toList.drop 52 = dktX3_otherNumber_2 := dk_seg dksX3_otherNumber_1 51 rfl rfl
theorem dksX3_otherNumber_3 : cX3_otherNumber.data.toList.drop 74 = dktX3_otherNumber_3 := dk_seg dksX3_otherNumber_2 22 rfl rfl
theorem dksX3_otherNumber_4 : cX3_otherNumber.data.toList.drop 97 = dktX3_otherNumber_4 := dk_seg dksX3_otherNumber_3 23 rfl rfl
theorem dksX3_otherNumber_5 : cX3_otherNumber.data.toList.drop 120 = dktX3_otherNumber_5 := dk_seg dksX3_otherNumber_4 23 rfl rfl
theorem dX3_otherNumber_0 : decode cX3_otherNumber 0 = .ok (.iload_n 1, 1) := dk_27 (dk_at dksX3_otherNumber_0 0 rfl rfl)
theorem dX3_otherNumber_1 : decode cX3_otherNumber 1 = .ok (.tableswitch 123 9 17 #[51, 58, 65, 72, 80, 88, 103, 110, 118], 51) := by decide +kernel
theorem dX3_otherNumber_52 : decode cX3_otherNumber 52 = .ok (.aload_n 0, 1) := dk_42 (dk_at dksX3_otherNumber_2 0 rfl rfl)
theorem dX3_otherNumber_53 : decode cX3_otherNumber 53 = .ok (.getfield 9, 3) := dk_180 0 9 (dk_at dksX3_otherNumber_2 1 rfl rfl)
theorem dX3_otherNumber_56 : decode cX3_otherNumber 56 = .ok (.iconst 3, 1) := dk_6 (dk_at dksX3_otherNumber_2 4 rfl rfl)
theorem dX3_otherNumber_57 : decode cX3_otherNumber 57 = .ok (.iaload, 1) := dk_46 (dk_at dksX3_otherNumber_2 5 rfl rfl)
theorem dX3_otherNumber_58 : decode cX3_otherNumber 58 = .ok (.ireturn, 1) := dk_172 (dk_at dksX3_otherNumber_2 6 rfl rfl)
theorem dX3_otherNumber_59 : decode cX3_otherNumber 59 = .ok (.aload_n 0, 1) := dk_42 (dk_at dksX3_otherNumber_2 7 rfl rfl)
theorem dX3_otherNumber_60 : decode cX3_otherNumber 60 = .ok (.getfield 9, 3) := dk_180 0 9 (dk_at dksX3_otherNumber_2 8 rfl rfl)
theorem dX3_otherNumber_63 : decode cX3_otherNumber 63 = .ok (.iconst 4, 1) := dk_7 (dk_at dksX3_otherNumber_2 11 rfl rfl)
theorem dX3_otherNumber_64 : decode cX3_otherNumber 64 = .ok (.iaload, 1) := dk_46 (dk_at dksX3_otherNumber_2 12 rfl rfl)
theorem dX3_otherNumber_65 : decode cX3_otherNumber 65 = .ok (.ireturn, 1) := dk_172 (dk_at dksX3_otherNumber_2 13 rfl rfl)
theorem dX3_otherNumber_66 : decode cX3_otherNumber 66 = .ok (.aload_n 0, 1) := dk_42 (dk_at dksX3_otherNumber_2 14 rfl rfl)
theorem dX3_otherNumber_67 : decode cX3_otherNumber 67 = .ok (.getfield 9, 3) := dk_180 0 9 (dk_at dksX3_otherNumber_2 15 rfl rfl)
theorem dX3_otherNumber_70 : decode cX3_otherNumber 70 = .ok (.iconst 5, 1) := dk_8 (dk_at dksX3_otherNumber_2 18 rfl rfl)
theorem dX3_otherNumber_71 : decode cX3_otherNumber 71 = .ok (.iaload, 1) := dk_46 (dk_at dksX3_otherNumber_2 19 rfl rfl)
theorem dX3_otherNumber_72 : decode cX3_otherNumber 72 = .ok (.ireturn, 1) := dk_172 (dk_at dksX3_otherNumber_2 20 rfl rfl)
theorem dX3_otherNumber_73 : decode cX3_otherNumber 73 = .ok (.aload_n 0, 1) := dk_42 (dk_at dksX3_otherNumber_2 21 rfl rfl)
theorem dX3_otherNumber_74 : decode cX3_otherNumber 74 = .ok (.getfield 9, 3) := dk_180 0 9 (dk_at dksX3_otherNumber_3 0 rfl rfl)
theorem dX3_otherNumber_77 : decode cX3_otherNumber 77 = .ok (.bipush 11, 2) := dk_16 11 (dk_at dksX3_otherNumber_3 3 rfl rfl)
theorem dX3_otherNumber_79 : decode cX3_otherNumber 79 = .ok (.iaload, 1) := dk_46 (dk_at dksX3_otherNumber_3 5 rfl rfl)
theorem dX3_otherNumber_80 : decode cX3_otherNumber 80 = .ok (.ireturn, 1) := dk_172 (dk_at dksX3_otherNumber_3 6 rfl rfl)
theorem dX3_otherNumber_81 : decode cX3_otherNumber 81 = .ok (.aload_n 0, 1) := dk_42 (dk_at dksX3_otherNumber_3 7 rfl rfl)
theorem dX3_otherNumber_82 : decode cX3_otherNumber 82 = .ok (.getfield 9, 3) := dk_180 0 9 (dk_at dksX3_otherNumber_3 8 rfl rfl)
theorem dX3_otherNumber_85 : decode cX3_otherNumber 85 = .ok (.bipush 12, 2) := dk_16 12 (dk_at dksX3_otherNumber_3 11 rfl rfl)
theorem dX3_otherNumber_87 : decode cX3_otherNumber 87 = .ok (.iaload, 1) := dk_46 (dk_at dksX3_otherNumber_3 13 rfl rfl)
theorem dX3_otherNumber_88 : decode cX3_otherNumber 88 = .ok (.ireturn, 1) := dk_172 (dk_at dksX3_otherNumber_3 14 rfl rfl)
theorem dX3_otherNumber_89 : decode cX3_otherNumber 89 = .ok (.aload_n 0, 1) := dk_42 (dk_at dksX3_otherNumber_3 15 rfl rfl)
theorem dX3_otherNumber_90 : decode cX3_otherNumber 90 = .ok (.bipush 119, 2) := dk_16 119 (dk_at dksX3_otherNumber_3 16 rfl rfl)
theorem dX3_otherNumber_92 : decode cX3_otherNumber 92 = .ok (.iconst 3, 1) := dk_6 (dk_at dksX3_otherNumber_3 18 rfl rfl)
theorem dX3_otherNumber_93 : decode cX3_otherNumber 93 = .ok (.aload_n 0, 1) := dk_42 (dk_at dksX3_otherNumber_3 19 rfl rfl)
theorem dX3_otherNumber_94 : decode cX3_otherNumber 94 = .ok (.getfield 9, 3) := dk_180 0 9 (dk_at dksX3_otherNumber_3 20 rfl rfl)
theorem dX3_otherNumber_97 : decode cX3_otherNumber 97 = .ok (.bipush 12, 2) := dk_16 12 (dk_at dksX3_otherNumber_4 0 rfl rfl)
theorem dX3_otherNumber_99 : decode cX3_otherNumber 99 = .ok (.iaload, 1) := dk_46 (dk_at dksX3_otherNumber_4 2 rfl rfl)
theorem dX3_otherNumber_100 : decode cX3_otherNumber 100 = .ok (.invokevirtual 252, 3) := dk_182 0 252 (dk_at dksX3_otherNumber_4 3 rfl rfl)
theorem dX3_otherNumber_103 : decode cX3_otherNumber 103 = .ok (.ireturn, 1) := dk_172 (dk_at dksX3_otherNumber_4 6 rfl rfl)
theorem dX3_otherNumber_104 : decode cX3_otherNumber 104 = .ok (.aload_n 0, 1) := dk_42 (dk_at dksX3_otherNumber_4 7 rfl rfl)
theorem dX3_otherNumber_105 : decode cX3_otherNumber 105 = .ok (.getfield 9, 3) := dk_180 0 9 (dk_at dksX3_otherNumber_4 8 rfl rfl)
theorem dX3_otherNumber_108 : decode cX3_otherNumber 108 = .ok (.iconst 2, 1) := dk_5 (dk_at dksX3_otherNumber_4 11 rfl rfl)
theorem dX3_otherNumber_109 : decode cX3_otherNumber 109 = .ok (.iaload, 1) := dk_46 (dk_at dksX3_otherNumber_4 12 rfl rfl)
theorem dX3_otherNumber_110 : decode cX3_otherNumber 110 = .ok (.ireturn, 1) := dk_172 (dk_at dksX3_otherNumber_4 13 rfl rfl)
theorem dX3_otherNumber_111 : decode cX3_otherNumber 111 = .ok (.aload_n 0, 1) := dk_42 (dk_at dksX3_otherNumber_4 14 rfl rfl)
theorem dX3_otherNumber_112 : decode cX3_otherNumber 112 = .ok (.getfield 9, 3) := dk_180 0 9 (dk_at dksX3_otherNumber_4 15 rfl rfl)
theorem dX3_otherNumber_115 : decode cX3_otherNumber 115 = .ok (.bipush 6, 2) := dk_16 6 (dk_at dksX3_otherNumber_4 18 rfl rfl)
theorem dX3_otherNumber_117 : decode cX3_otherNumber 117 = .ok (.iaload, 1) := dk_46 (dk_at dksX3_otherNumber_4 20 rfl rfl)
theorem dX3_otherNumber_118 : decode cX3_otherNumber 118 = .ok (.ireturn, 1) := dk_172 (dk_at dksX3_otherNumber_4 21 rfl rfl)
theorem dX3_otherNumber_119 : decode cX3_otherNumber 119 = .ok (.aload_n 0, 1) := dk_42 (dk_at dksX3_otherNumber_4 22 rfl rfl)
theorem dX3_otherNumber_120 : decode cX3_otherNumber 120 = .ok (.getfield 53, 3) := dk_180 0 53 (dk_at dksX3_otherNumber_5 0 rfl rfl)
theorem dX3_otherNumber_123 : decode cX3_otherNumber 123 = .ok (.ireturn, 1) := dk_172 (dk_at dksX3_otherNumber_5 3 rfl rfl)
theorem dX3_otherNumber_124 : decode cX3_otherNumber 124 = .ok (.aload_n 0, 1) := dk_42 (dk_at dksX3_otherNumber_5 4 rfl rfl)
theorem dX3_otherNumber_125 : decode cX3_otherNumber 125 = .ok (.getfield 255, 3) := dk_180 0 255 (dk_at dksX3_otherNumber_5 5 rfl rfl)
theorem dX3_otherNumber_128 : decode cX3_otherNumber 128 = .ok (.ireturn, 1) := dk_172 (dk_at dksX3_otherNumber_5 8 rfl rfl)
abbrev cX3_shedAgain : ByteArray := prog_14_method_84_code
def yX3_shedAgain : MethodName := ⟨RX3, "shedAgain", "()I"⟩
def dkwX3_shedAgain_1 : List UInt8 := [180, 0, 9, 8, 46, 96, 172]
abbrev dktX3_shedAgain_1 : List UInt8 := dkwX3_shedAgain_1 ++ []
def dkwX3_shedAgain_0 : List UInt8 := [42, 3, 181, 0, 41, 42, 182, 1, 7, 42, 180, 0, 9, 6, 46, 96, 42, 180, 0, 9, 7, 46, 96, 42]
abbrev dktX3_shedAgain_0 : List UInt8 := dkwX3_shedAgain_0 ++ dktX3_shedAgain_1
theorem dksX3_shedAgain_0 : cX3_shedAgain.data.toList.drop 0 = dktX3_shedAgain_0 := by decide +kernel
theorem dksX3_shedAgain_1 : cX3_shedAgain.data.toList.drop 24 = dktX3_shedAgain_1 := dk_seg dksX3_shedAgain_0 24 rfl rfl
theorem dX3_shedAgain_0 : decode cX3_shedAgain 0 = .ok (.aload_n 0, 1) := dk_42 (dk_at dksX3_shedAgain_0 0 rfl rfl)
theorem dX3_shedAgain_1 : decode cX3_shedAgain 1 = .ok (.iconst 0, 1) := dk_3 (dk_at dksX3_shedAgain_0 1 rfl rfl)
theorem dX3_shedAgain_2 : decode cX3_shedAgain 2 = .ok (.putfield 41, 3) := dk_181 0 41 (dk_at dksX3_shedAgain_0 2 rfl rfl)
theorem dX3_shedAgain_5 : decode cX3_shedAgain 5 = .ok (.aload_n 0, 1) := dk_42 (dk_at dksX3_shedAgain_0 5 rfl rfl)
theorem dX3_shedAgain_6 : decode cX3_shedAgain 6 = .ok (.invokevirtual 263, 3) := dk_182 1 7 (dk_at dksX3_shedAgain_0 6 rfl rfl)
theorem dX3_shedAgain_9 : decode cX3_shedAgain 9 = .ok (.aload_n 0, 1) := dk_42 (dk_at dksX3_shedAgain_0 9 rfl rfl)
theorem dX3_shedAgain_10 : decode cX3_shedAgain 10 = .ok (.getfield 9, 3) := dk_180 0 9 (dk_at dksX3_shedAgain_0 10 rfl rfl)
theorem dX3_shedAgain_13 : decode cX3_shedAgain 13 = .ok (.iconst 3, 1) := dk_6 (dk_at dksX3_shedAgain_0 13 rfl rfl)
theorem dX3_shedAgain_14 : decode cX3_shedAgain 14 = .ok (.iaload, 1) := dk_46 (dk_at dksX3_shedAgain_0 14 rfl rfl)
theorem dX3_shedAgain_15 : decode cX3_shedAgain 15 = .ok (.iadd, 1) := dk_96 (dk_at dksX3_shedAgain_0 15 rfl rfl)
theorem dX3_shedAgain_16 : decode cX3_shedAgain 16 = .ok (.aload_n 0, 1) := dk_42 (dk_at dksX3_shedAgain_0 16 rfl rfl)
theorem dX3_shedAgain_17 : decode cX3_shedAgain 17 = .ok (.getfield 9, 3) := dk_180 0 9 (dk_at dksX3_shedAgain_0 17 rfl rfl)
theorem dX3_shedAgain_20 : decode cX3_shedAgain 20 = .ok (.iconst 4, 1) := dk_7 (dk_at dksX3_shedAgain_0 20 rfl rfl)
theorem dX3_shedAgain_21 : decode cX3_shedAgain 21 = .ok (.iaload, 1) := dk_46 (dk_at dksX3_shedAgain_0 21 rfl rfl)
theorem dX3_shedAgain_22 : decode cX3_shedAgain 22 = .ok (.iadd, 1) := dk_96 (dk_at dksX3_shedAgain_0 22 rfl rfl)
theorem dX3_shedAgain_23 : decode cX3_shedAgain 23 = .ok (.aload_n 0, 1) := dk_42 (dk_at dksX3_shedAgain_0 23 rfl rfl)
theorem dX3_shedAgain_24 : decode cX3_shedAgain 24 = .ok (.getfield 9, 3) := dk_180 0 9 (dk_at dksX3_shedAgain_1 0 rfl rfl)
theorem dX3_shedAgain_27 : decode cX3_shedAgain 27 = .ok (.iconst 5, 1) := dk_8 (dk_at dksX3_shedAgain_1 3 rfl rfl)
theorem dX3_shedAgain_28 : decode cX3_shedAgain 28 = .ok (.iaload, 1) := dk_46 (dk_at dksX3_shedAgain_1 4 rfl rfl)
theorem dX3_shedAgain_29 : decode cX3_shedAgain 29 = .ok (.iadd, 1) := dk_96 (dk_at dksX3_shedAgain_1 5 rfl rfl)
theorem dX3_shedAgain_30 : decode cX3_shedAgain 30 = .ok (.ireturn, 1) := dk_172 (dk_at dksX3_shedAgain_1 6 rfl rfl)
abbrev cX3_meanHeight : ByteArray := prog_14_method_85_code
def yX3_meanHeight : MethodName := ⟨RX3, "meanHeight", "()D"⟩
def dkwX3_meanHeight_0 : List UInt8 := [42, 3, 181, 0, 41, 42, 16, 22, 4, 16, 12, 182, 0, 252, 135, 20, 1, 13, 111, 175]
abbrev dktX3_meanHeight_0 : List UInt8 := dkwX3_meanHeight_0 ++ []
theorem dksX3_meanHeight_0 : cX3_meanHeight.data.toList.drop 0 = dktX3_meanHeight_0 := by decide +kernel
theorem dX3_meanHeight_0 : decode cX3_meanHeight 0 = .ok (.aload_n 0, 1) := dk_42 (dk_at dksX3_meanHeight_0 0 rfl rfl)
theorem dX3_meanHeight_1 : decode cX3_meanHeight 1 = .ok (.iconst 0, 1) := dk_3 (dk_at dksX3_meanHeight_0 1 rfl rfl)
theorem dX3_meanHeight_2 : decode cX3_meanHeight 2 = .ok (.putfield 41, 3) := dk_181 0 41 (dk_at dksX3_meanHeight_0 2 rfl rfl)
theorem dX3_meanHeight_5 : decode cX3_meanHeight 5 = .ok (.aload_n 0, 1) := dk_42 (dk_at dksX3_meanHeight_0 5 rfl rfl)
theorem dX3_meanHeight_6 : decode cX3_meanHeight 6 = .ok (.bipush 22, 2) := dk_16 22 (dk_at dksX3_meanHeight_0 6 rfl rfl)
theorem dX3_meanHeight_8 : decode cX3_meanHeight 8 = .ok (.iconst 1, 1) := dk_4 (dk_at dksX3_meanHeight_0 8 rfl rfl)
theorem dX3_meanHeight_9 : decode cX3_meanHeight 9 = .ok (.bipush 12, 2) := dk_16 12 (dk_at dksX3_meanHeight_0 9 rfl rfl)
theorem dX3_meanHeight_11 : decode cX3_meanHeight 11 = .ok (.invokevirtual 252, 3) := dk_182 0 252 (dk_at dksX3_meanHeight_0 11 rfl rfl)
theorem dX3_meanHeight_14 : decode cX3_meanHeight 14 = .ok (.i2d, 1) := dk_135 (dk_at dksX3_meanHeight_0 14 rfl rfl)
theorem dX3_meanHeight_15 : decode cX3_meanHeight 15 = .ok (.ldc2_w 269, 3) := dk_20 1 13 (dk_at dksX3_meanHeight_0 15 rfl rfl)
theorem dX3_meanHeight_18 : decode cX3_meanHeight 18 = .ok (.ddiv, 1) := dk_111 (dk_at dksX3_meanHeight_0 18 rfl rfl)
theorem dX3_meanHeight_19 : decode cX3_meanHeight 19 = .ok (.dreturn, 1) := dk_175 (dk_at dksX3_meanHeight_0 19 rfl rfl)
abbrev cX3_foundShare : ByteArray := prog_14_method_86_code
def yX3_foundShare : MethodName := ⟨RX3, "foundShare", "()F"⟩
def dkwX3_foundShare_2 : List UInt8 := [134, 110, 174]
abbrev dktX3_foundShare_2 : List UInt8 := dkwX3_foundShare_2 ++ []
def dkwX3_foundShare_1 : List UInt8 := [167, 0, 26, 42, 180, 0, 9, 6, 46, 42, 180, 0, 9, 8, 46, 96, 134, 42, 180, 0, 9, 16, 9, 46]
abbrev dktX3_foundShare_1 : List UInt8 := dkwX3_foundShare_1 ++ dktX3_foundShare_2
def dkwX3_foundShare_0 : List UInt8 := [42, 4, 42, 180, 0, 9, 16, 9, 46, 154, 0, 7, 4, 167, 0, 4, 3, 182, 0, 94, 153, 0, 7, 11]
abbrev dktX3_foundShare_0 : List UInt8 := dkwX3_foundShare_0 ++ dktX3_foundShare_1
theorem dksX3_foundShare_0 : cX3_foundShare.data.toList.drop 0 = dktX3_foundShare_0 := by decide +kernel
theorem dksX3_foundShare_1 : cX3_foundShare.data.toList.drop 24 = dktX3_foundShare_1 := dk_seg dksX3_foundShare_0 24 rfl rfl
theorem dksX3_foundShare_2 : cX3_foundShare.data.toList.drop 48 = dktX3_foundShare_2 := dk_seg dksX3_foundShare_1 24 rfl rfl
theorem dX3_foundShare_0 : decode cX3_foundShare 0 = .ok (.aload_n 0, 1) := dk_42 (dk_at dksX3_foundShare_0 0 rfl rfl)
theorem dX3_foundShare_1 : decode cX3_foundShare 1 = .ok (.iconst 1, 1) := dk_4 (dk_at dksX3_foundShare_0 1 rfl rfl)
theorem dX3_foundShare_2 : decode cX3_foundShare 2 = .ok (.aload_n 0, 1) := dk_42 (dk_at dksX3_foundShare_0 2 rfl rfl)
theorem dX3_foundShare_3 : decode cX3_foundShare 3 = .ok (.getfield 9, 3) := dk_180 0 9 (dk_at dksX3_foundShare_0 3 rfl rfl)
theorem dX3_foundShare_6 : decode cX3_foundShare 6 = .ok (.bipush 9, 2) := dk_16 9 (dk_at dksX3_foundShare_0 6 rfl rfl)
theorem dX3_foundShare_8 : decode cX3_foundShare 8 = .ok (.iaload, 1) := dk_46 (dk_at dksX3_foundShare_0 8 rfl rfl)
theorem dX3_foundShare_9 : decode cX3_foundShare 9 = .ok (.ifCond .ne 7, 3) := dk_154 0 7 (dk_at dksX3_foundShare_0 9 rfl rfl)
theorem dX3_foundShare_12 : decode cX3_foundShare 12 = .ok (.iconst 1, 1) := dk_4 (dk_at dksX3_foundShare_0 12 rfl rfl)
theorem dX3_foundShare_13 : decode cX3_foundShare 13 = .ok (.goto 4, 3) := dk_167 0 4 (dk_at dksX3_foundShare_0 13 rfl rfl)
theorem dX3_foundShare_16 : decode cX3_foundShare 16 = .ok (.iconst 0, 1) := dk_3 (dk_at dksX3_foundShare_0 16 rfl rfl)
theorem dX3_foundShare_17 : decode cX3_foundShare 17 = .ok (.invokevirtual 94, 3) := dk_182 0 94 (dk_at dksX3_foundShare_0 17 rfl rfl)
theorem dX3_foundShare_20 : decode cX3_foundShare 20 = .ok (.ifCond .eq 7, 3) := dk_153 0 7 (dk_at dksX3_foundShare_0 20 rfl rfl)
theorem dX3_foundShare_23 : decode cX3_foundShare 23 = .ok (.fconst 0, 1) := dk_11 (dk_at dksX3_foundShare_0 23 rfl rfl)
theorem dX3_foundShare_24 : decode cX3_foundShare 24 = .ok (.goto 26, 3) := dk_167 0 26 (dk_at dksX3_foundShare_1 0 rfl rfl)
theorem dX3_foundShare_27 : decode cX3_foundShare 27 = .ok (.aload_n 0, 1) := dk_42 (dk_at dksX3_foundShare_1 3 rfl rfl)
theorem dX3_foundShare_28 : decode cX3_foundShare 28 = .ok (.getfield 9, 3) := dk_180 0 9 (dk_at dksX3_foundShare_1 4 rfl rfl)
theorem dX3_foundShare_31 : decode cX3_foundShare 31 = .ok (.iconst 3, 1) := dk_6 (dk_at dksX3_foundShare_1 7 rfl rfl)
theorem dX3_foundShare_32 : decode cX3_foundShare 32 = .ok (.iaload, 1) := dk_46 (dk_at dksX3_foundShare_1 8 rfl rfl)
theorem dX3_foundShare_33 : decode cX3_foundShare 33 = .ok (.aload_n 0, 1) := dk_42 (dk_at dksX3_foundShare_1 9 rfl rfl)
theorem dX3_foundShare_34 : decode cX3_foundShare 34 = .ok (.getfield 9, 3) := dk_180 0 9 (dk_at dksX3_foundShare_1 10 rfl rfl)
theorem dX3_foundShare_37 : decode cX3_foundShare 37 = .ok (.iconst 5, 1) := dk_8 (dk_at dksX3_foundShare_1 13 rfl rfl)
theorem dX3_foundShare_38 : decode cX3_foundShare 38 = .ok (.iaload, 1) := dk_46 (dk_at dksX3_foundShare_1 14 rfl rfl)
theorem dX3_foundShare_39 : decode cX3_foundShare 39 = .ok (.iadd, 1) := dk_96 (dk_at dksX3_foundShare_1 15 rfl rfl)
theorem dX3_foundShare_40 : decode cX3_foundShare 40 = .ok (.i2f, 1) := dk_134 (dk_at dksX3_foundShare_1 16 rfl rfl)
theorem dX3_foundShare_41 : decode cX3_foundShare 41 = .ok (.aload_n 0, 1) := dk_42 (dk_at dksX3_foundShare_1 17 rfl rfl)
theorem dX3_foundShare_42 : decode cX3_foundShare 42 = .ok (.getfield 9, 3) := dk_180 0 9 (dk_at dksX3_foundShare_1 18 rfl rfl)
theorem dX3_foundShare_45 : decode cX3_foundShare 45 = .ok (.bipush 9, 2) := dk_16 9 (dk_at dksX3_foundShare_1 21 rfl rfl)
theorem dX3_foundShare_47 : decode cX3_foundShare 47 = .ok (.iaload, 1) := dk_46 (dk_at dksX3_foundShare_1 23 rfl rfl)
theorem dX3_foundShare_48 : decode cX3_foundShare 48 = .ok (.i2f, 1) := dk_134 (dk_at dksX3_foundShare_2 0 rfl rfl)
theorem dX3_foundShare_49 : decode cX3_foundShare 49 = .ok (.fdiv, 1) := dk_110 (dk_at dksX3_foundShare_2 1 rfl rfl)
theorem dX3_foundShare_50 : decode cX3_foundShare 50 = .ok (.freturn, 1) := dk_174 (dk_at dksX3_foundShare_2 2 rfl rfl)
abbrev cX3_feed : ByteArray := prog_14_method_87_code
def yX3_feed : MethodName := ⟨RX3, "feed", "(C)I"⟩
def dkwX3_feed_2 : List UInt8 := [172]
abbrev dktX3_feed_2 : List UInt8 := dkwX3_feed_2 ++ []
def dkwX3_feed_1 : List UInt8 := [42, 180, 0, 34, 42, 180, 0, 255, 27, 85, 42, 89, 180, 0, 255, 4, 96, 181, 0, 255, 42, 180, 0, 255]
abbrev dktX3_feed_1 : List UInt8 := dkwX3_feed_1 ++ dktX3_feed_2
def dkwX3_feed_0 : List UInt8 := [42, 4, 42, 180, 0, 255, 16, 60, 160, 0, 7, 4, 167, 0, 4, 3, 182, 0, 94, 153, 0, 5, 3, 172]
abbrev dktX3_feed_0 : List UInt8 := dkwX3_feed_0 ++ dktX3_feed_1
theorem dksX3_feed_0 : cX3_feed.data.toList.drop 0 = dktX3_feed_0 := by decide +kernel
theorem dksX3_feed_1 : cX3_feed.data.toList.drop 24 = dktX3_feed_1 := dk_seg dksX3_feed_0 24 rfl rfl
theorem dksX3_feed_2 : cX3_feed.data.toList.drop 48 = dktX3_feed_2 := dk_seg dksX3_feed_1 24 rfl rfl
theorem dX3_feed_0 : decode cX3_feed 0 = .ok (.aload_n 0, 1) := dk_42 (dk_at dksX3_feed_0 0 rfl rfl)
theorem dX3_feed_1 : decode cX3_feed 1 = .ok (.iconst 1, 1) := dk_4 (dk_at dksX3_feed_0 1 rfl rfl)
theorem dX3_feed_2 : decode cX3_feed 2 = .ok (.aload_n 0, 1) := dk_42 (dk_at dksX3_feed_0 2 rfl rfl)
theorem dX3_feed_3 : decode cX3_feed 3 = .ok (.getfield 255, 3) := dk_180 0 255 (dk_at dksX3_feed_0 3 rfl rfl)
theorem dX3_feed_6 : decode cX3_feed 6 = .ok (.bipush 60, 2) := dk_16 60 (dk_at dksX3_feed_0 6 rfl rfl)
theorem dX3_feed_8 : decode cX3_feed 8 = .ok (.if_icmp .ne 7, 3) := dk_160 0 7 (dk_at dksX3_feed_0 8 rfl rfl)
theorem dX3_feed_11 : decode cX3_feed 11 = .ok (.iconst 1, 1) := dk_4 (dk_at dksX3_feed_0 11 rfl rfl)
theorem dX3_feed_12 : decode cX3_feed 12 = .ok (.goto 4, 3) := dk_167 0 4 (dk_at dksX3_feed_0 12 rfl rfl)
theorem dX3_feed_15 : decode cX3_feed 15 = .ok (.iconst 0, 1) := dk_3 (dk_at dksX3_feed_0 15 rfl rfl)
theorem dX3_feed_16 : decode cX3_feed 16 = .ok (.invokevirtual 94, 3) := dk_182 0 94 (dk_at dksX3_feed_0 16 rfl rfl)
theorem dX3_feed_19 : decode cX3_feed 19 = .ok (.ifCond .eq 5, 3) := dk_153 0 5 (dk_at dksX3_feed_0 19 rfl rfl)
theorem dX3_feed_22 : decode cX3_feed 22 = .ok (.iconst 0, 1) := dk_3 (dk_at dksX3_feed_0 22 rfl rfl)
theorem dX3_feed_23 : decode cX3_feed 23 = .ok (.ireturn, 1) := dk_172 (dk_at dksX3_feed_0 23 rfl rfl)
theorem dX3_feed_24 : decode cX3_feed 24 = .ok (.aload_n 0, 1) := dk_42 (dk_at dksX3_feed_1 0 rfl rfl)
theorem dX3_feed_25 : decode cX3_feed 25 = .ok (.getfield 34, 3) := dk_180 0 34 (dk_at dksX3_feed_1 1 rfl rfl)
theorem dX3_feed_28 : decode cX3_feed 28 = .ok (.aload_n 0, 1) := dk_42 (dk_at dksX3_feed_1 4 rfl rfl)
theorem dX3_feed_29 : decode cX3_feed 29 = .ok (.getfield 255, 3) := dk_180 0 255 (dk_at dksX3_feed_1 5 rfl rfl)
theorem dX3_feed_32 : decode cX3_feed 32 = .ok (.iload_n 1, 1) := dk_27 (dk_at dksX3_feed_1 8 rfl rfl)
theorem dX3_feed_33 : decode cX3_feed 33 = .ok (.castore, 1) := dk_85 (dk_at dksX3_feed_1 9 rfl rfl)
theorem dX3_feed_34 : decode cX3_feed 34 = .ok (.aload_n 0, 1) := dk_42 (dk_at dksX3_feed_1 10 rfl rfl)
theorem dX3_feed_35 : decode cX3_feed 35 = .ok (.dup, 1) := dk_89 (dk_at dksX3_feed_1 11 rfl rfl)
theorem dX3_feed_36 : decode cX3_feed 36 = .ok (.getfield 255, 3) := dk_180 0 255 (dk_at dksX3_feed_1 12 rfl rfl)
theorem dX3_feed_39 : decode cX3_feed 39 = .ok (.iconst 1, 1) := dk_4 (dk_at dksX3_feed_1 15 rfl rfl)
theorem dX3_feed_40 : decode cX3_feed 40 = .ok (.iadd, 1) := dk_96 (dk_at dksX3_feed_1 16 rfl rfl)
theorem dX3_feed_41 : decode cX3_feed 41 = .ok (.putfield 255, 3) := dk_181 0 255 (dk_at dksX3_feed_1 17 rfl rfl)
theorem dX3_feed_44 : decode cX3_feed 44 = .ok (.aload_n 0, 1) := dk_42 (dk_at dksX3_feed_1 20 rfl rfl)
theorem dX3_feed_45 : decode cX3_feed 45 = .ok (.getfield 255, 3) := dk_180 0 255 (dk_at dksX3_feed_1 21 rfl rfl)
theorem dX3_feed_48 : decode cX3_feed 48 = .ok (.ireturn, 1) := dk_172 (dk_at dksX3_feed_2 0 rfl rfl)
abbrev cX3_read : ByteArray := prog_14_method_98_code
def yX3_read : MethodName := ⟨RX3, "read", "()I"⟩
def dkwX3_read_7 : List UInt8 := [181, 0, 41, 42, 42, 180, 0, 19, 182, 0, 64, 27, 172]
abbrev dktX3_read_7 : List UInt8 := dkwX3_read_7 ++ []
def dkwX3_read_6 : List UInt8 := [28, 154, 0, 21, 42, 180, 0, 19, 42, 180, 0, 9, 184, 0, 56, 42, 5, 181, 0, 41, 3, 172, 42, 3]
abbrev dktX3_read_6 : List UInt8 := dkwX3_read_6 ++ dktX3_read_7
def dkwX3_read_5 : List UInt8 := [4, 167, 0, 4, 3, 182, 1, 97, 132, 3, 1, 167, 255, 188, 42, 3, 181, 0, 60, 42, 3, 181, 0, 255]
abbrev dktX3_read_5 : List UInt8 := dkwX3_read_5 ++ dktX3_read_6
def dkwX3_read_4 : List UInt8 := [154, 0, 7, 4, 167, 0, 4, 3, 61, 28, 154, 0, 22, 42, 29, 42, 180, 0, 41, 21, 4, 160, 0, 7]
abbrev dktX3_read_4 : List UInt8 := dkwX3_read_4 ++ dktX3_read_5
def dkwX3_read_3 : List UInt8 := [182, 1, 70, 42, 89, 180, 1, 18, 4, 96, 181, 1, 18, 42, 182, 1, 94, 54, 4, 42, 180, 0, 41]
abbrev dktX3_read_3 : List UInt8 := dkwX3_read_3 ++ dktX3_read_4
def dkwX3_read_2 : List UInt8 := [181, 0, 60, 4, 61, 42, 3, 181, 1, 18, 3, 62, 29, 27, 162, 0, 69, 28, 153, 0, 65, 42]
abbrev dktX3_read_2 : List UInt8 := dkwX3_read_2 ++ dktX3_read_3
def dkwX3_read_1 : List UInt8 := [181, 0, 255, 42, 4, 181, 0, 41, 3, 172, 42, 180, 0, 9, 42, 180, 0, 19, 184, 0, 56, 42, 4]
abbrev dktX3_read_1 : List UInt8 := dkwX3_read_1 ++ dktX3_read_2
def dkwX3_read_0 : List UInt8 := [42, 182, 1, 91, 60, 42, 180, 1, 15, 153, 0, 23, 42, 42, 180, 1, 18, 181, 0, 37, 42, 3]
abbrev dktX3_read_0 : List UInt8 := dkwX3_read_0 ++ dktX3_read_1
theorem dksX3_read_0 : cX3_read.data.toList.drop 0 = dktX3_read_0 := by decide +kernel
theorem dksX3_read_1 : cX3_read.data.toList.drop 22 = dktX3_read_1 := dk_seg dksX3_read_0 22 rfl rfl
theorem dksX3_read_2 : cX3_read.data.toList.drop 45 = dktX3_read_2 := dk_seg dksX3_read_1 23 rfl rfl
theorem dksX3_read_3 : cX3_read.data.toList.drop 67 = dktX3_read_3 := dk_seg dksX3_read_2 22 rfl rfl
theorem dksX3_read_4 : cX3_read.data.toList.drop 90 = dktX3_read_4 := dk_seg dksX3_read_3 23 rfl rfl
theorem dksX3_read_5 : cX3_read.data.toList.drop 114 = dktX3_read_5 := dk_seg dksX3_read_4 24 rfl rfl
theorem dksX3_read_6 : cX3_read.data.toList.drop 138 = dktX3_read_6 := dk_seg dksX3_read_5 24 rfl rfl
theorem dksX3_read_7 : cX3_read.data.toList.drop 162 = dktX3_read_7 := dk_seg dksX3_read_6 24 rfl rfl
theorem dX3_read_0 : decode cX3_read 0 = .ok (.aload_n 0, 1) := dk_42 (dk_at dksX3_read_0 0 rfl rfl)
theorem dX3_read_1 : decode cX3_read 1 = .ok (.invokevirtual 347, 3) := dk_182 1 91 (dk_at dksX3_read_0 1 rfl rfl)
theorem dX3_read_4 : decode cX3_read 4 = .ok (.istore_n 1, 1) := dk_60 (dk_at dksX3_read_0 4 rfl rfl)
theorem dX3_read_5 : decode cX3_read 5 = .ok (.aload_n 0, 1) := dk_42 (dk_at dksX3_read_0 5 rfl rfl)
theorem dX3_read_6 : decode cX3_read 6 = .ok (.getfield 271, 3) := dk_180 1 15 (dk_at dksX3_read_0 6 rfl rfl)
theorem dX3_read_9 : decode cX3_read 9 = .ok (.ifCond .eq 23, 3) := dk_153 0 23 (dk_at dksX3_read_0 9 rfl rfl)
theorem dX3_read_12 : decode cX3_read 12 = .ok (.aload_n 0, 1) := dk_42 (dk_at dksX3_read_0 12 rfl rfl)
theorem dX3_read_13 : decode cX3_read 13 = .ok (.aload_n 0, 1) := dk_42 (dk_at dksX3_read_0 13 rfl rfl)
theorem dX3_read_14 : decode cX3_read 14 = .ok (.getfield 274, 3) := dk_180 1 18 (dk_at dksX3_read_0 14 rfl rfl)
theorem dX3_read_17 : decode cX3_read 17 = .ok (.putfield 37, 3) := dk_181 0 37 (dk_at dksX3_read_0 17 rfl rfl)
theorem dX3_read_20 : decode cX3_read 20 = .ok (.aload_n 0, 1) := dk_42 (dk_at dksX3_read_0 20 rfl rfl)
theorem dX3_read_21 : decode cX3_read 21 = .ok (.iconst 0, 1) := dk_3 (dk_at dksX3_read_0 21 rfl rfl)
theorem dX3_read_22 : decode cX3_read 22 = .ok (.putfield 255, 3) := dk_181 0 255 (dk_at dksX3_read_1 0 rfl rfl)
theorem dX3_read_25 : decode cX3_read 25 = .ok (.aload_n 0, 1) := dk_42 (dk_at dksX3_read_1 3 rfl rfl)
theorem dX3_read_26 : decode cX3_read 26 = .ok (.iconst 1, 1) := dk_4 (dk_at dksX3_read_1 4 rfl rfl)
theorem dX3_read_27 : decode cX3_read 27 = .ok (.putfield 41, 3) := dk_181 0 41 (dk_at dksX3_read_1 5 rfl rfl)
theorem dX3_read_30 : decode cX3_read 30 = .ok (.iconst 0, 1) := dk_3 (dk_at dksX3_read_1 8 rfl rfl)
theorem dX3_read_31 : decode cX3_read 31 = .ok (.ireturn, 1) := dk_172 (dk_at dksX3_read_1 9 rfl rfl)
theorem dX3_read_32 : decode cX3_read 32 = .ok (.aload_n 0, 1) := dk_42 (dk_at dksX3_read_1 10 rfl rfl)
theorem dX3_read_33 : decode cX3_read 33 = .ok (.getfield 9, 3) := dk_180 0 9 (dk_at dksX3_read_1 11 rfl rfl)
theorem dX3_read_36 : decode cX3_read 36 = .ok (.aload_n 0, 1) := dk_42 (dk_at dksX3_read_1 14 rfl rfl)
theorem dX3_read_37 : decode cX3_read 37 = .ok (.getfield 19, 3) := dk_180 0 19 (dk_at dksX3_read_1 15 rfl rfl)
theorem dX3_read_40 : decode cX3_read 40 = .ok (.invokestatic 56, 3) := dk_184 0 56 (dk_at dksX3_read_1 18 rfl rfl)
theorem dX3_read_43 : decode cX3_read 43 = .ok (.aload_n 0, 1) := dk_42 (dk_at dksX3_read_1 21 rfl rfl)
theorem dX3_read_44 : decode cX3_read 44 = .ok (.iconst 1, 1) := dk_4 (dk_at dksX3_read_1 22 rfl rfl)
theorem dX3_read_45 : decode cX3_read 45 = .ok (.putfield 60, 3) := dk_181 0 60 (dk_at dksX3_read_2 0 rfl rfl)
theorem dX3_read_48 : decode cX3_read 48 = .ok (.iconst 1, 1) := dk_4 (dk_at dksX3_read_2 3 rfl rfl)
theorem dX3_read_49 : decode cX3_read 49 = .ok (.istore_n 2, 1) := dk_61 (dk_at dksX3_read_2 4 rfl rfl)
theorem dX3_read_50 : decode cX3_read 50 = .ok (.aload_n 0, 1) := dk_42 (dk_at dksX3_read_2 5 rfl rfl)
theorem dX3_read_51 : decode cX3_read 51 = .ok (.iconst 0, 1) := dk_3 (dk_at dksX3_read_2 6 rfl rfl)
theorem dX3_read_52 : decode cX3_read 52 = .ok (.putfield 274, 3) := dk_181 1 18 (dk_at dksX3_read_2 7 rfl rfl)
theorem dX3_read_55 : decode cX3_read 55 = .ok (.iconst 0, 1) := dk_3 (dk_at dksX3_read_2 10 rfl rfl)
theorem dX3_read_56 : decode cX3_read 56 = .ok (.istore_n 3, 1) := dk_62 (dk_at dksX3_read_2 11 rfl rfl)
theorem dX3_read_57 : decode cX3_read 57 = .ok (.iload_n 3, 1) := dk_29 (dk_at dksX3_read_2 12 rfl rfl)
theorem dX3_read_58 : decode cX3_read 58 = .ok (.iload_n 1, 1) := dk_27 (dk_at dksX3_read_2 13 rfl rfl)
theorem dX3_read_59 : decode cX3_read 59 = .ok (.if_icmp .ge 69, 3) := dk_162 0 69 (dk_at dksX3_read_2 14 rfl rfl)
theorem dX3_read_62 : decode cX3_read 62 = .ok (.iload_n 2, 1) := dk_28 (dk_at dksX3_read_2 17 rfl rfl)
theorem dX3_read_63 : decode cX3_read 63 = .ok (.ifCond .eq 65, 3) := dk_153 0 65 (dk_at dksX3_read_2 18 rfl rfl)
theorem dX3_read_66 : decode cX3_read 66 = .ok (.aload_n 0, 1) := dk_42 (dk_at dksX3_read_2 21 rfl rfl)
theorem dX3_read_67 : decode cX3_read 67 = .ok (.invokevirtual 326, 3) := dk_182 1 70 (dk_at dksX3_read_3 0 rfl rfl)
theorem dX3_read_70 : decode cX3_read 70 = .ok (.aload_n 0, 1) := dk_42 (dk_at dksX3_read_3 3 rfl rfl)
theorem dX3_read_71 : decode cX3_read 71 = .ok (.dup, 1) := dk_89 (dk_at dksX3_read_3 4 rfl rfl)
theorem dX3_read_72 : decode cX3_read 72 = .ok (.getfield 274, 3) := dk_180 1 18 (dk_at dksX3_read_3 5 rfl rfl)
theorem dX3_read_75 : decode cX3_read 75 = .ok (.iconst 1, 1) := dk_4 (dk_at dksX3_read_3 8 rfl rfl)
theorem dX3_read_76 : decode cX3_read 76 = .ok (.iadd, 1) := dk_96 (dk_at dksX3_read_3 9 rfl rfl)
theorem dX3_read_77 : decode cX3_read 77 = .ok (.putfield 274, 3) := dk_181 1 18 (dk_at dksX3_read_3 10 rfl rfl)
theorem dX3_read_80 : decode cX3_read 80 = .ok (.aload_n 0, 1) := dk_42 (dk_at dksX3_read_3 13 rfl rfl)
theorem dX3_read_81 : decode cX3_read 81 = .ok (.invokevirtual 350, 3) := dk_182 1 94 (dk_at dksX3_read_3 14 rfl rfl)
theorem dX3_read_84 : decode cX3_read 84 = .ok (.istore 4, 2) := dk_54 4 (dk_at dksX3_read_3 17 rfl rfl)
theorem dX3_read_86 : decode cX3_read 86 = .ok (.aload_n 0, 1) := dk_42 (dk_at dksX3_read_3 19 rfl rfl)
theorem dX3_read_87 : decode cX3_read 87 = .ok (.getfield 41, 3) := dk_180 0 41 (dk_at dksX3_read_3 20 rfl rfl)
theorem dX3_read_90 : decode cX3_read 90 = .ok (.ifCond .ne 7, 3) := dk_154 0 7 (dk_at dksX3_read_4 0 rfl rfl)
theorem dX3_read_93 : decode cX3_read 93 = .ok (.iconst 1, 1) := dk_4 (dk_at dksX3_read_4 3 rfl rfl)
theorem dX3_read_94 : decode cX3_read 94 = .ok (.goto 4, 3) := dk_167 0 4 (dk_at dksX3_read_4 4 rfl rfl)
theorem dX3_read_97 : decode cX3_read 97 = .ok (.iconst 0, 1) := dk_3 (dk_at dksX3_read_4 7 rfl rfl)
theorem dX3_read_98 : decode cX3_read 98 = .ok (.istore_n 2, 1) := dk_61 (dk_at dksX3_read_4 8 rfl rfl)
theorem dX3_read_99 : decode cX3_read 99 = .ok (.iload_n 2, 1) := dk_28 (dk_at dksX3_read_4 9 rfl rfl)
theorem dX3_read_100 : decode cX3_read 100 = .ok (.ifCond .ne 22, 3) := dk_154 0 22 (dk_at dksX3_read_4 10 rfl rfl)
theorem dX3_read_103 : decode cX3_read 103 = .ok (.aload_n 0, 1) := dk_42 (dk_at dksX3_read_4 13 rfl rfl)
theorem dX3_read_104 : decode cX3_read 104 = .ok (.iload_n 3, 1) := dk_29 (dk_at dksX3_read_4 14 rfl rfl)
theorem dX3_read_105 : decode cX3_read 105 = .ok (.aload_n 0, 1) := dk_42 (dk_at dksX3_read_4 15 rfl rfl)
theorem dX3_read_106 : decode cX3_read 106 = .ok (.getfield 41, 3) := dk_180 0 41 (dk_at dksX3_read_4 16 rfl rfl)
theorem dX3_read_109 : decode cX3_read 109 = .ok (.iload 4, 2) := dk_21 4 (dk_at dksX3_read_4 19 rfl rfl)
theorem dX3_read_111 : decode cX3_read 111 = .ok (.if_icmp .ne 7, 3) := dk_160 0 7 (dk_at dksX3_read_4 21 rfl rfl)
theorem dX3_read_114 : decode cX3_read 114 = .ok (.iconst 1, 1) := dk_4 (dk_at dksX3_read_5 0 rfl rfl)
theorem dX3_read_115 : decode cX3_read 115 = .ok (.goto 4, 3) := dk_167 0 4 (dk_at dksX3_read_5 1 rfl rfl)
theorem dX3_read_118 : decode cX3_read 118 = .ok (.iconst 0, 1) := dk_3 (dk_at dksX3_read_5 4 rfl rfl)
theorem dX3_read_119 : decode cX3_read 119 = .ok (.invokevirtual 353, 3) := dk_182 1 97 (dk_at dksX3_read_5 5 rfl rfl)
theorem dX3_read_122 : decode cX3_read 122 = .ok (.iinc 3 1, 3) := dk_132 3 1 (dk_at dksX3_read_5 8 rfl rfl)
theorem dX3_read_125 : decode cX3_read 125 = .ok (.goto (-68), 3) := dk_167 255 188 (dk_at dksX3_read_5 11 rfl rfl)
theorem dX3_read_128 : decode cX3_read 128 = .ok (.aload_n 0, 1) := dk_42 (dk_at dksX3_read_5 14 rfl rfl)
theorem dX3_read_129 : decode cX3_read 129 = .ok (.iconst 0, 1) := dk_3 (dk_at dksX3_read_5 15 rfl rfl)
theorem dX3_read_130 : decode cX3_read 130 = .ok (.putfield 60, 3) := dk_181 0 60 (dk_at dksX3_read_5 16 rfl rfl)
theorem dX3_read_133 : decode cX3_read 133 = .ok (.aload_n 0, 1) := dk_42 (dk_at dksX3_read_5 19 rfl rfl)
theorem dX3_read_134 : decode cX3_read 134 = .ok (.iconst 0, 1) := dk_3 (dk_at dksX3_read_5 20 rfl rfl)
theorem dX3_read_135 : decode cX3_read 135 = .ok (.putfield 255, 3) := dk_181 0 255 (dk_at dksX3_read_5 21 rfl rfl)
theorem dX3_read_138 : decode cX3_read 138 = .ok (.iload_n 2, 1) := dk_28 (dk_at dksX3_read_6 0 rfl rfl)
theorem dX3_read_139 : decode cX3_read 139 = .ok (.ifCond .ne 21, 3) := dk_154 0 21 (dk_at dksX3_read_6 1 rfl rfl)
theorem dX3_read_142 : decode cX3_read 142 = .ok (.aload_n 0, 1) := dk_42 (dk_at dksX3_read_6 4 rfl rfl)
theorem dX3_read_143 : decode cX3_read 143 = .ok (.getfield 19, 3) := dk_180 0 19 (dk_at dksX3_read_6 5 rfl rfl)
theorem dX3_read_146 : decode cX3_read 146 = .ok (.aload_n 0, 1) := dk_42 (dk_at dksX3_read_6 8 rfl rfl)
theorem dX3_read_147 : decode cX3_read 147 = .ok (.getfield 9, 3) := dk_180 0 9 (dk_at dksX3_read_6 9 rfl rfl)
theorem dX3_read_150 : decode cX3_read 150 = .ok (.invokestatic 56, 3) := dk_184 0 56 (dk_at dksX3_read_6 12 rfl rfl)
theorem dX3_read_153 : decode cX3_read 153 = .ok (.aload_n 0, 1) := dk_42 (dk_at dksX3_read_6 15 rfl rfl)
theorem dX3_read_154 : decode cX3_read 154 = .ok (.iconst 2, 1) := dk_5 (dk_at dksX3_read_6 16 rfl rfl)
theorem dX3_read_155 : decode cX3_read 155 = .ok (.putfield 41, 3) := dk_181 0 41 (dk_at dksX3_read_6 17 rfl rfl)
theorem dX3_read_158 : decode cX3_read 158 = .ok (.iconst 0, 1) := dk_3 (dk_at dksX3_read_6 20 rfl rfl)
theorem dX3_read_159 : decode cX3_read 159 = .ok (.ireturn, 1) := dk_172 (dk_at dksX3_read_6 21 rfl rfl)
theorem dX3_read_160 : decode cX3_read 160 = .ok (.aload_n 0, 1) := dk_42 (dk_at dksX3_read_6 22 rfl rfl)
theorem dX3_read_161 : decode cX3_read 161 = .ok (.iconst 0, 1) := dk_3 (dk_at dksX3_read_6 23 rfl rfl)
theorem dX3_read_162 : decode cX3_read 162 = .ok (.putfield 41, 3) := dk_181 0 41 (dk_at dksX3_read_7 0 rfl rfl)
theorem dX3_read_165 : decode cX3_read 165 = .ok (.aload_n 0, 1) := dk_42 (dk_at dksX3_read_7 3 rfl rfl)
theorem dX3_read_166 : decode cX3_read 166 = .ok (.aload_n 0, 1) := dk_42 (dk_at dksX3_read_7 4 rfl rfl)
theorem dX3_read_167 : decode cX3_read 167 = .ok (.getfield 19, 3) := dk_180 0 19 (dk_at dksX3_read_7 5 rfl rfl)
theorem dX3_read_170 : decode cX3_read 170 = .ok (.invokevirtual 64, 3) := dk_182 0 64 (dk_at dksX3_read_7 8 rfl rfl)
theorem dX3_read_173 : decode cX3_read 173 = .ok (.iload_n 1, 1) := dk_27 (dk_at dksX3_read_7 11 rfl rfl)
theorem dX3_read_174 : decode cX3_read 174 = .ok (.ireturn, 1) := dk_172 (dk_at dksX3_read_7 12 rfl rfl)
abbrev cX3_countCommands : ByteArray := prog_14_method_95_code
def yX3_countCommands : MethodName := ⟨RX3, "countCommands", "()I"⟩
def dkwX3_countCommands_2 : List UInt8 := [167, 255, 225, 27, 172]
abbrev dktX3_countCommands_2 : List UInt8 := dkwX3_countCommands_2 ++ []
def dkwX3_countCommands_1 : List UInt8 := [180, 1, 18, 42, 180, 0, 255, 162, 0, 19, 42, 16, 59, 182, 1, 25, 42, 182, 1, 70, 132, 1, 1]
abbrev dktX3_countCommands_1 : List UInt8 := dkwX3_countCommands_1 ++ dktX3_countCommands_2
def dkwX3_countCommands_0 : List UInt8 := [42, 3, 181, 1, 18, 42, 3, 181, 1, 15, 4, 60, 42, 182, 1, 70, 42, 180, 1, 15, 154, 0, 30, 42]
abbrev dktX3_countCommands_0 : List UInt8 := dkwX3_countCommands_0 ++ dktX3_countCommands_1
theorem dksX3_countCommands_0 : cX3_countCommands.data.toList.drop 0 = dktX3_countCommands_0 := by decide +kernel
theorem dksX3_countCommands_1 : cX3_countCommands.data.toList.drop 24 = dktX3_countCommands_1 := dk_seg dksX3_countCommands_0 24 rfl rfl
theorem dksX3_countCommands_2 : cX3_countCommands.data.toList.drop 47 = dktX3_countCommands_2 := dk_seg dksX3_countCommands_1 23 rfl rfl
theorem dX3_countCommands_0 : decode cX3_countCommands 0 = .ok (.aload_n 0, 1) := dk_42 (dk_at dksX3_countCommands_0 0 rfl rfl)
theorem dX3_countCommands_1 : decode cX3_countCommands 1 = .ok (.iconst 0, 1) := dk_3 (dk_at dksX3_countCommands_0 1 rfl rfl)
theorem dX3_countCommands_2 : decode cX3_countCommands 2 = .ok (.putfield 274, 3) := dk_181 1 18 (dk_at dksX3_countCommands_0 2 rfl rfl)
theorem dX3_countCommands_5 : decode cX3_countCommands 5 = .ok (.aload_n 0, 1) := dk_42 (dk_at dksX3_countCommands_0 5 rfl rfl)
theorem dX3_countCommands_6 : decode cX3_countCommands 6 = .ok (.iconst 0, 1) := dk_3 (dk_at dksX3_countCommands_0 6 rfl rfl)
theorem dX3_countCommands_7 : decode cX3_countCommands 7 = .ok (.putfield 271, 3) := dk_181 1 15 (dk_at dksX3_countCommands_0 7 rfl rfl)
theorem dX3_countCommands_10 : decode cX3_countCommands 10 = .ok (.iconst 1, 1) := dk_4 (dk_at dksX3_countCommands_0 10 rfl rfl)
theorem dX3_countCommands_11 : decode cX3_countCommands 11 = .ok (.istore_n 1, 1) := dk_60 (dk_at dksX3_countCommands_0 11 rfl rfl)
theorem dX3_countCommands_12 : decode cX3_countCommands 12 = .ok (.aload_n 0, 1) := dk_42 (dk_at dksX3_countCommands_0 12 rfl rfl)
theorem dX3_countCommands_13 : decode cX3_countCommands 13 = .ok (.invokevirtual 326, 3) := dk_182 1 70 (dk_at dksX3_countCommands_0 13 rfl rfl)
theorem dX3_countCommands_16 : decode cX3_countCommands 16 = .ok (.aload_n 0, 1) := dk_42 (dk_at dksX3_countCommands_0 16 rfl rfl)
theorem dX3_countCommands_17 : decode cX3_countCommands 17 = .ok (.getfield 271, 3) := dk_180 1 15 (dk_at dksX3_countCommands_0 17 rfl rfl)
theorem dX3_countCommands_20 : decode cX3_countCommands 20 = .ok (.ifCond .ne 30, 3) := dk_154 0 30 (dk_at dksX3_countCommands_0 20 rfl rfl)
theorem dX3_countCommands_23 : decode cX3_countCommands 23 = .ok (.aload_n 0, 1) := dk_42 (dk_at dksX3_countCommands_0 23 rfl rfl)
theorem dX3_countCommands_24 : decode cX3_countCommands 24 = .ok (.getfield 274, 3) := dk_180 1 18 (dk_at dksX3_countCommands_1 0 rfl rfl)
theorem dX3_countCommands_27 : decode cX3_countCommands 27 = .ok (.aload_n 0, 1) := dk_42 (dk_at dksX3_countCommands_1 3 rfl rfl)
theorem dX3_countCommands_28 : decode cX3_countCommands 28 = .ok (.getfield 255, 3) := dk_180 0 255 (dk_at dksX3_countCommands_1 4 rfl rfl)
theorem dX3_countCommands_31 : decode cX3_countCommands 31 = .ok (.if_icmp .ge 19, 3) := dk_162 0 19 (dk_at dksX3_countCommands_1 7 rfl rfl)
theorem dX3_countCommands_34 : decode cX3_countCommands 34 = .ok (.aload_n 0, 1) := dk_42 (dk_at dksX3_countCommands_1 10 rfl rfl)
theorem dX3_countCommands_35 : decode cX3_countCommands 35 = .ok (.bipush 59, 2) := dk_16 59 (dk_at dksX3_countCommands_1 11 rfl rfl)
theorem dX3_countCommands_37 : decode cX3_countCommands 37 = .ok (.invokevirtual 281, 3) := dk_182 1 25 (dk_at dksX3_countCommands_1 13 rfl rfl)
theorem dX3_countCommands_40 : decode cX3_countCommands 40 = .ok (.aload_n 0, 1) := dk_42 (dk_at dksX3_countCommands_1 16 rfl rfl)
theorem dX3_countCommands_41 : decode cX3_countCommands 41 = .ok (.invokevirtual 326, 3) := dk_182 1 70 (dk_at dksX3_countCommands_1 17 rfl rfl)
theorem dX3_countCommands_44 : decode cX3_countCommands 44 = .ok (.iinc 1 1, 3) := dk_132 1 1 (dk_at dksX3_countCommands_1 20 rfl rfl)
theorem dX3_countCommands_47 : decode cX3_countCommands 47 = .ok (.goto (-31), 3) := dk_167 255 225 (dk_at dksX3_countCommands_2 0 rfl rfl)
theorem dX3_countCommands_50 : decode cX3_countCommands 50 = .ok (.iload_n 1, 1) := dk_27 (dk_at dksX3_countCommands_2 3 rfl rfl)
theorem dX3_countCommands_51 : decode cX3_countCommands 51 = .ok (.ireturn, 1) := dk_172 (dk_at dksX3_countCommands_2 4 rfl rfl)
abbrev cX3_readCommand : ByteArray := prog_14_method_94_code
def yX3_readCommand : MethodName := ⟨RX3, "readCommand", "()V"⟩
def dkwX3_readCommand_6 : List UInt8 := [42, 42, 4, 182, 1, 58, 181, 1, 64, 177]
abbrev dktX3_readCommand_6 : List UInt8 := dkwX3_readCommand_6 ++ []
def dkwX3_readCommand_5 : List UInt8 := [181, 1, 67, 167, 0, 30, 42, 180, 1, 50, 16, 119, 159, 0, 12, 42, 180, 1, 50, 16, 97, 160, 0, 12]
abbrev dktX3_readCommand_5 : List UInt8 := dkwX3_readCommand_5 ++ dktX3_readCommand_6
def dkwX3_readCommand_4 : List UInt8 := [180, 1, 50, 16, 104, 160, 0, 24, 42, 42, 5, 182, 1, 58, 181, 1, 64, 42, 42, 5, 182, 1, 58]
abbrev dktX3_readCommand_4 : List UInt8 := dkwX3_readCommand_4 ++ dktX3_readCommand_5
def dkwX3_readCommand_3 : List UInt8 := [167, 0, 4, 3, 61, 42, 42, 28, 153, 0, 7, 5, 167, 0, 4, 4, 182, 1, 58, 181, 1, 61, 42]
abbrev dktX3_readCommand_3 : List UInt8 := dkwX3_readCommand_3 ++ dktX3_readCommand_4
def dkwX3_readCommand_2 : List UInt8 := [159, 0, 21, 42, 180, 1, 50, 16, 108, 159, 0, 12, 42, 180, 1, 50, 16, 100, 160, 0, 7, 4]
abbrev dktX3_readCommand_2 : List UInt8 := dkwX3_readCommand_2 ++ dktX3_readCommand_3
def dkwX3_readCommand_1 : List UInt8 := [162, 0, 18, 42, 43, 28, 182, 0, 227, 182, 1, 25, 132, 2, 1, 167, 255, 236, 42, 180, 1, 50, 16, 101]
abbrev dktX3_readCommand_1 : List UInt8 := dkwX3_readCommand_1 ++ dktX3_readCommand_2
def dkwX3_readCommand_0 : List UInt8 := [42, 42, 182, 1, 46, 181, 1, 50, 42, 180, 1, 50, 184, 1, 54, 76, 3, 61, 28, 43, 182, 0, 219]
abbrev dktX3_readCommand_0 : List UInt8 := dkwX3_readCommand_0 ++ dktX3_readCommand_1
theorem dksX3_readCommand_0 : cX3_readCommand.data.toList.drop 0 = dktX3_readCommand_0 := by decide +kernel
theorem dksX3_readCommand_1 : cX3_readCommand.data.toList.drop 23 = dktX3_readCommand_1 := dk_seg dksX3_readCommand_0 23 rfl rfl
theorem dksX3_readCommand_2 : cX3_readCommand.data.toList.drop 47 = dktX3_readCommand_2 := dk_seg dksX3_readCommand_1 24 rfl rfl
theorem dksX3_readCommand_3 : cX3_readCommand.data.toList.drop 69 = dktX3_readCommand_3 := dk_seg dksX3_readCommand_2 22 rfl rfl
theorem dksX3_readCommand_4 : cX3_readCommand.data.toList.drop 92 = dktX3_readCommand_4 := dk_seg dksX3_readCommand_3 23 rfl rfl
theorem dksX3_readCommand_5 : cX3_readCommand.data.toList.drop 115 = dktX3_readCommand_5 := dk_seg dksX3_readCommand_4 23 rfl rfl
theorem dksX3_readCommand_6 : cX3_readCommand.data.toList.drop 139 = dktX3_readCommand_6 := dk_seg dksX3_readCommand_5 24 rfl rfl
theorem dX3_readCommand_0 : decode cX3_readCommand 0 = .ok (.aload_n 0, 1) := dk_42 (dk_at dksX3_readCommand_0 0 rfl rfl)
theorem dX3_readCommand_1 : decode cX3_readCommand 1 = .ok (.aload_n 0, 1) := dk_42 (dk_at dksX3_readCommand_0 1 rfl rfl)
theorem dX3_readCommand_2 : decode cX3_readCommand 2 = .ok (.invokevirtual 302, 3) := dk_182 1 46 (dk_at dksX3_readCommand_0 2 rfl rfl)
theorem dX3_readCommand_5 : decode cX3_readCommand 5 = .ok (.putfield 306, 3) := dk_181 1 50 (dk_at dksX3_readCommand_0 5 rfl rfl)
theorem dX3_readCommand_8 : decode cX3_readCommand 8 = .ok (.aload_n 0, 1) := dk_42 (dk_at dksX3_readCommand_0 8 rfl rfl)
theorem dX3_readCommand_9 : decode cX3_readCommand 9 = .ok (.getfield 306, 3) := dk_180 1 50 (dk_at dksX3_readCommand_0 9 rfl rfl)
theorem dX3_readCommand_12 : decode cX3_readCommand 12 = .ok (.invokestatic 310, 3) := dk_184 1 54 (dk_at dksX3_readCommand_0 12 rfl rfl)
theorem dX3_readCommand_15 : decode cX3_readCommand 15 = .ok (.astore_n 1, 1) := dk_76 (dk_at dksX3_readCommand_0 15 rfl rfl)
theorem dX3_readCommand_16 : decode cX3_readCommand 16 = .ok (.iconst 0, 1) := dk_3 (dk_at dksX3_readCommand_0 16 rfl rfl)
theorem dX3_readCommand_17 : decode cX3_readCommand 17 = .ok (.istore_n 2, 1) := dk_61 (dk_at dksX3_readCommand_0 17 rfl rfl)
theorem dX3_readCommand_18 : decode cX3_readCommand 18 = .ok (.iload_n 2, 1) := dk_28 (dk_at dksX3_readCommand_0 18 rfl rfl)
theorem dX3_readCommand_19 : decode cX3_readCommand 19 = .ok (.aload_n 1, 1) := dk_43 (dk_at dksX3_readCommand_0 19 rfl rfl)
theorem dX3_readCommand_20 : decode cX3_readCommand 20 = .ok (.invokevirtual 219, 3) := dk_182 0 219 (dk_at dksX3_readCommand_0 20 rfl rfl)
theorem dX3_readCommand_23 : decode cX3_readCommand 23 = .ok (.if_icmp .ge 18, 3) := dk_162 0 18 (dk_at dksX3_readCommand_1 0 rfl rfl)
theorem dX3_readCommand_26 : decode cX3_readCommand 26 = .ok (.aload_n 0, 1) := dk_42 (dk_at dksX3_readCommand_1 3 rfl rfl)
theorem dX3_readCommand_27 : decode cX3_readCommand 27 = .ok (.aload_n 1, 1) := dk_43 (dk_at dksX3_readCommand_1 4 rfl rfl)
theorem dX3_readCommand_28 : decode cX3_readCommand 28 = .ok (.iload_n 2, 1) := dk_28 (dk_at dksX3_readCommand_1 5 rfl rfl)
theorem dX3_readCommand_29 : decode cX3_readCommand 29 = .ok (.invokevirtual 227, 3) := dk_182 0 227 (dk_at dksX3_readCommand_1 6 rfl rfl)
theorem dX3_readCommand_32 : decode cX3_readCommand 32 = .ok (.invokevirtual 281, 3) := dk_182 1 25 (dk_at dksX3_readCommand_1 9 rfl rfl)
theorem dX3_readCommand_35 : decode cX3_readCommand 35 = .ok (.iinc 2 1, 3) := dk_132 2 1 (dk_at dksX3_readCommand_1 12 rfl rfl)
theorem dX3_readCommand_38 : decode cX3_readCommand 38 = .ok (.goto (-20), 3) := dk_167 255 236 (dk_at dksX3_readCommand_1 15 rfl rfl)
theorem dX3_readCommand_41 : decode cX3_readCommand 41 = .ok (.aload_n 0, 1) := dk_42 (dk_at dksX3_readCommand_1 18 rfl rfl)
theorem dX3_readCommand_42 : decode cX3_readCommand 42 = .ok (.getfield 306, 3) := dk_180 1 50 (dk_at dksX3_readCommand_1 19 rfl rfl)
theorem dX3_readCommand_45 : decode cX3_readCommand 45 = .ok (.bipush 101, 2) := dk_16 101 (dk_at dksX3_readCommand_1 22 rfl rfl)
theorem dX3_readCommand_47 : decode cX3_readCommand 47 = .ok (.if_icmp .eq 21, 3) := dk_159 0 21 (dk_at dksX3_readCommand_2 0 rfl rfl)
theorem dX3_readCommand_50 : decode cX3_readCommand 50 = .ok (.aload_n 0, 1) := dk_42 (dk_at dksX3_readCommand_2 3 rfl rfl)
theorem dX3_readCommand_51 : decode cX3_readCommand 51 = .ok (.getfield 306, 3) := dk_180 1 50 (dk_at dksX3_readCommand_2 4 rfl rfl)
theorem dX3_readCommand_54 : decode cX3_readCommand 54 = .ok (.bipush 108, 2) := dk_16 108 (dk_at dksX3_readCommand_2 7 rfl rfl)
theorem dX3_readCommand_56 : decode cX3_readCommand 56 = .ok (.if_icmp .eq 12, 3) := dk_159 0 12 (dk_at dksX3_readCommand_2 9 rfl rfl)
theorem dX3_readCommand_59 : decode cX3_readCommand 59 = .ok (.aload_n 0, 1) := dk_42 (dk_at dksX3_readCommand_2 12 rfl rfl)
theorem dX3_readCommand_60 : decode cX3_readCommand 60 = .ok (.getfield 306, 3) := dk_180 1 50 (dk_at dksX3_readCommand_2 13 rfl rfl)
theorem dX3_readCommand_63 : decode cX3_readCommand 63 = .ok (.bipush 100, 2) := dk_16 100 (dk_at dksX3_readCommand_2 16 rfl rfl)
theorem dX3_readCommand_65 : decode cX3_readCommand 65 = .ok (.if_icmp .ne 7, 3) := dk_160 0 7 (dk_at dksX3_readCommand_2 18 rfl rfl)
theorem dX3_readCommand_68 : decode cX3_readCommand 68 = .ok (.iconst 1, 1) := dk_4 (dk_at dksX3_readCommand_2 21 rfl rfl)
theorem dX3_readCommand_69 : decode cX3_readCommand 69 = .ok (.goto 4, 3) := dk_167 0 4 (dk_at dksX3_readCommand_3 0 rfl rfl)
theorem dX3_readCommand_72 : decode cX3_readCommand 72 = .ok (.iconst 0, 1) := dk_3 (dk_at dksX3_readCommand_3 3 rfl rfl)
theorem dX3_readCommand_73 : decode cX3_readCommand 73 = .ok (.istore_n 2, 1) := dk_61 (dk_at dksX3_readCommand_3 4 rfl rfl)
theorem dX3_readCommand_74 : decode cX3_readCommand 74 = .ok (.aload_n 0, 1) := dk_42 (dk_at dksX3_readCommand_3 5 rfl rfl)
theorem dX3_readCommand_75 : decode cX3_readCommand 75 = .ok (.aload_n 0, 1) := dk_42 (dk_at dksX3_readCommand_3 6 rfl rfl)
theorem dX3_readCommand_76 : decode cX3_readCommand 76 = .ok (.iload_n 2, 1) := dk_28 (dk_at dksX3_readCommand_3 7 rfl rfl)
theorem dX3_readCommand_77 : decode cX3_readCommand 77 = .ok (.ifCond .eq 7, 3) := dk_153 0 7 (dk_at dksX3_readCommand_3 8 rfl rfl)
theorem dX3_readCommand_80 : decode cX3_readCommand 80 = .ok (.iconst 2, 1) := dk_5 (dk_at dksX3_readCommand_3 11 rfl rfl)
theorem dX3_readCommand_81 : decode cX3_readCommand 81 = .ok (.goto 4, 3) := dk_167 0 4 (dk_at dksX3_readCommand_3 12 rfl rfl)
theorem dX3_readCommand_84 : decode cX3_readCommand 84 = .ok (.iconst 1, 1) := dk_4 (dk_at dksX3_readCommand_3 15 rfl rfl)
theorem dX3_readCommand_85 : decode cX3_readCommand 85 = .ok (.invokevirtual 314, 3) := dk_182 1 58 (dk_at dksX3_readCommand_3 16 rfl rfl)
theorem dX3_readCommand_88 : decode cX3_readCommand 88 = .ok (.putfield 317, 3) := dk_181 1 61 (dk_at dksX3_readCommand_3 19 rfl rfl)
theorem dX3_readCommand_91 : decode cX3_readCommand 91 = .ok (.aload_n 0, 1) := dk_42 (dk_at dksX3_readCommand_3 22 rfl rfl)
theorem dX3_readCommand_92 : decode cX3_readCommand 92 = .ok (.getfield 306, 3) := dk_180 1 50 (dk_at dksX3_readCommand_4 0 rfl rfl)
theorem dX3_readCommand_95 : decode cX3_readCommand 95 = .ok (.bipush 104, 2) := dk_16 104 (dk_at dksX3_readCommand_4 3 rfl rfl)
theorem dX3_readCommand_97 : decode cX3_readCommand 97 = .ok (.if_icmp .ne 24, 3) := dk_160 0 24 (dk_at dksX3_readCommand_4 5 rfl rfl)
theorem dX3_readCommand_100 : decode cX3_readCommand 100 = .ok (.aload_n 0, 1) := dk_42 (dk_at dksX3_readCommand_4 8 rfl rfl)
theorem dX3_readCommand_101 : decode cX3_readCommand 101 = .ok (.aload_n 0, 1) := dk_42 (dk_at dksX3_readCommand_4 9 rfl rfl)
theorem dX3_readCommand_102 : decode cX3_readCommand 102 = .ok (.iconst 2, 1) := dk_5 (dk_at dksX3_readCommand_4 10 rfl rfl)
theorem dX3_readCommand_103 : decode cX3_readCommand 103 = .ok (.invokevirtual 314, 3) := dk_182 1 58 (dk_at dksX3_readCommand_4 11 rfl rfl)
theorem dX3_readCommand_106 : decode cX3_readCommand 106 = .ok (.putfield 320, 3) := dk_181 1 64 (dk_at dksX3_readCommand_4 14 rfl rfl)
theorem dX3_readCommand_109 : decode cX3_readCommand 109 = .ok (.aload_n 0, 1) := dk_42 (dk_at dksX3_readCommand_4 17 rfl rfl)
theorem dX3_readCommand_110 : decode cX3_readCommand 110 = .ok (.aload_n 0, 1) := dk_42 (dk_at dksX3_readCommand_4 18 rfl rfl)
theorem dX3_readCommand_111 : decode cX3_readCommand 111 = .ok (.iconst 2, 1) := dk_5 (dk_at dksX3_readCommand_4 19 rfl rfl)
theorem dX3_readCommand_112 : decode cX3_readCommand 112 = .ok (.invokevirtual 314, 3) := dk_182 1 58 (dk_at dksX3_readCommand_4 20 rfl rfl)
theorem dX3_readCommand_115 : decode cX3_readCommand 115 = .ok (.putfield 323, 3) := dk_181 1 67 (dk_at dksX3_readCommand_5 0 rfl rfl)
theorem dX3_readCommand_118 : decode cX3_readCommand 118 = .ok (.goto 30, 3) := dk_167 0 30 (dk_at dksX3_readCommand_5 3 rfl rfl)
theorem dX3_readCommand_121 : decode cX3_readCommand 121 = .ok (.aload_n 0, 1) := dk_42 (dk_at dksX3_readCommand_5 6 rfl rfl)
theorem dX3_readCommand_122 : decode cX3_readCommand 122 = .ok (.getfield 306, 3) := dk_180 1 50 (dk_at dksX3_readCommand_5 7 rfl rfl)
theorem dX3_readCommand_125 : decode cX3_readCommand 125 = .ok (.bipush 119, 2) := dk_16 119 (dk_at dksX3_readCommand_5 10 rfl rfl)
theorem dX3_readCommand_127 : decode cX3_readCommand 127 = .ok (.if_icmp .eq 12, 3) := dk_159 0 12 (dk_at dksX3_readCommand_5 12 rfl rfl)
theorem dX3_readCommand_130 : decode cX3_readCommand 130 = .ok (.aload_n 0, 1) := dk_42 (dk_at dksX3_readCommand_5 15 rfl rfl)
theorem dX3_readCommand_131 : decode cX3_readCommand 131 = .ok (.getfield 306, 3) := dk_180 1 50 (dk_at dksX3_readCommand_5 16 rfl rfl)
theorem dX3_readCommand_134 : decode cX3_readCommand 134 = .ok (.bipush 97, 2) := dk_16 97 (dk_at dksX3_readCommand_5 19 rfl rfl)
theorem dX3_readCommand_136 : decode cX3_readCommand 136 = .ok (.if_icmp .ne 12, 3) := dk_160 0 12 (dk_at dksX3_readCommand_5 21 rfl rfl)
theorem dX3_readCommand_139 : decode cX3_readCommand 139 = .ok (.aload_n 0, 1) := dk_42 (dk_at dksX3_readCommand_6 0 rfl rfl)
theorem dX3_readCommand_140 : decode cX3_readCommand 140 = .ok (.aload_n 0, 1) := dk_42 (dk_at dksX3_readCommand_6 1 rfl rfl)
theorem dX3_readCommand_141 : decode cX3_readCommand 141 = .ok (.iconst 1, 1) := dk_4 (dk_at dksX3_readCommand_6 2 rfl rfl)
theorem dX3_readCommand_142 : decode cX3_readCommand 142 = .ok (.invokevirtual 314, 3) := dk_182 1 58 (dk_at dksX3_readCommand_6 3 rfl rfl)
theorem dX3_readCommand_145 : decode cX3_readCommand 145 = .ok (.putfield 320, 3) := dk_181 1 64 (dk_at dksX3_readCommand_6 6 rfl rfl)
theorem dX3_readCommand_148 : decode cX3_readCommand 148 = .ok (.return_, 1) := dk_177 (dk_at dksX3_readCommand_6 9 rfl rfl)
abbrev cX3_kindHere : ByteArray := prog_14_method_92_code
def yX3_kindHere : MethodName := ⟨RX3, "kindHere", "()C"⟩
def dkwX3_kindHere_4 : List UInt8 := [159, 0, 9, 27, 16, 108, 160, 0, 7, 27, 167, 0, 5, 16, 100, 172]
abbrev dktX3_kindHere_4 : List UInt8 := dkwX3_kindHere_4 ++ []
def dkwX3_kindHere_3 : List UInt8 := [16, 97, 160, 0, 8, 16, 97, 167, 0, 5, 16, 101, 172, 27, 16, 119, 159, 0, 15, 27, 16, 102]
abbrev dktX3_kindHere_3 : List UInt8 := dkwX3_kindHere_3 ++ dktX3_kindHere_4
def dkwX3_kindHere_2 : List UInt8 := [42, 180, 1, 18, 4, 96, 182, 1, 29, 16, 101, 160, 0, 23, 42, 42, 180, 1, 18, 5, 96, 182, 1, 29]
abbrev dktX3_kindHere_2 : List UInt8 := dkwX3_kindHere_2 ++ dktX3_kindHere_3
def dkwX3_kindHere_1 : List UInt8 := [160, 0, 61, 42, 42, 180, 1, 18, 4, 96, 182, 1, 29, 16, 104, 160, 0, 8, 16, 104, 167, 0, 40, 42]
abbrev dktX3_kindHere_1 : List UInt8 := dkwX3_kindHere_1 ++ dktX3_kindHere_2
def dkwX3_kindHere_0 : List UInt8 := [42, 180, 1, 15, 153, 0, 8, 16, 32, 167, 0, 11, 42, 42, 180, 1, 18, 182, 1, 29, 60, 27, 16, 115]
abbrev dktX3_kindHere_0 : List UInt8 := dkwX3_kindHere_0 ++ dktX3_kindHere_1
theorem dksX3_kindHere_0 : cX3_kindHere.data.toList.drop 0 = dktX3_kindHere_0 := by decide +kernel
theorem dksX3_kindHere_1 : cX3_kindHere.data.toList.drop 24 = dktX3_kindHere_1 := dk_seg dksX3_kindHere_0 24 rfl rfl
theorem dksX3_kindHere_2 : cX3_kindHere.data.toList.drop 48 = dktX3_kindHere_2 := dk_seg dksX3_kindHere_1 24 rfl rfl
theorem dksX3_kindHere_3 : cX3_kindHere.data.toList.drop 72 = dktX3_kindHere_3 := dk_seg dksX3_kindHere_2 24 rfl rfl
theorem dksX3_kindHere_4 : cX3_kindHere.data.toList.drop 94 = dktX3_kindHere_4 := dk_seg dksX3_kindHere_3 22 rfl rfl
theorem dX3_kindHere_0 : decode cX3_kindHere 0 = .ok (.aload_n 0, 1) := dk_42 (dk_at dksX3_kindHere_0 0 rfl rfl)
theorem dX3_kindHere_1 : decode cX3_kindHere 1 = .ok (.getfield 271, 3) := dk_180 1 15 (dk_at dksX3_kindHere_0 1 rfl rfl)
theorem dX3_kindHere_4 : decode cX3_kindHere 4 = .ok (.ifCond .eq 8, 3) := dk_153 0 8 (dk_at dksX3_kindHere_0 4 rfl rfl)
theorem dX3_kindHere_7 : decode cX3_kindHere 7 = .ok (.bipush 32, 2) := dk_16 32 (dk_at dksX3_kindHere_0 7 rfl rfl)
theorem dX3_kindHere_9 : decode cX3_kindHere 9 = .ok (.goto 11, 3) := dk_167 0 11 (dk_at dksX3_kindHere_0 9 rfl rfl)
theorem dX3_kindHere_12 : decode cX3_kindHere 12 = .ok (.aload_n 0, 1) := dk_42 (dk_at dksX3_kindHere_0 12 rfl rfl)
theorem dX3_kindHere_13 : decode cX3_kindHere 13 = .ok (.aload_n 0, 1) := dk_42 (dk_at dksX3_kindHere_0 13 rfl rfl)
theorem dX3_kindHere_14 : decode cX3_kindHere 14 = .ok (.getfield 274, 3) := dk_180 1 18 (dk_at dksX3_kindHere_0 14 rfl rfl)
theorem dX3_kindHere_17 : decode cX3_kindHere 17 = .ok (.invokevirtual 285, 3) := dk_182 1 29 (dk_at dksX3_kindHere_0 17 rfl rfl)
theorem dX3_kindHere_20 : decode cX3_kindHere 20 = .ok (.istore_n 1, 1) := dk_60 (dk_at dksX3_kindHere_0 20 rfl rfl)
theorem dX3_kindHere_21 : decode cX3_kindHere 21 = .ok (.iload_n 1, 1) := dk_27 (dk_at dksX3_kindHere_0 21 rfl rfl)
theorem dX3_kindHere_22 : decode cX3_kindHere 22 = .ok (.bipush 115, 2) := dk_16 115 (dk_at dksX3_kindHere_0 22 rfl rfl)
theorem dX3_kindHere_24 : decode cX3_kindHere 24 = .ok (.if_icmp .ne 61, 3) := dk_160 0 61 (dk_at dksX3_kindHere_1 0 rfl rfl)
theorem dX3_kindHere_27 : decode cX3_kindHere 27 = .ok (.aload_n 0, 1) := dk_42 (dk_at dksX3_kindHere_1 3 rfl rfl)
theorem dX3_kindHere_28 : decode cX3_kindHere 28 = .ok (.aload_n 0, 1) := dk_42 (dk_at dksX3_kindHere_1 4 rfl rfl)
theorem dX3_kindHere_29 : decode cX3_kindHere 29 = .ok (.getfield 274, 3) := dk_180 1 18 (dk_at dksX3_kindHere_1 5 rfl rfl)
theorem dX3_kindHere_32 : decode cX3_kindHere 32 = .ok (.iconst 1, 1) := dk_4 (dk_at dksX3_kindHere_1 8 rfl rfl)
theorem dX3_kindHere_33 : decode cX3_kindHere 33 = .ok (.iadd, 1) := dk_96 (dk_at dksX3_kindHere_1 9 rfl rfl)
theorem dX3_kindHere_34 : decode cX3_kindHere 34 = .ok (.invokevirtual 285, 3) := dk_182 1 29 (dk_at dksX3_kindHere_1 10 rfl rfl)
theorem dX3_kindHere_37 : decode cX3_kindHere 37 = .ok (.bipush 104, 2) := dk_16 104 (dk_at dksX3_kindHere_1 13 rfl rfl)
theorem dX3_kindHere_39 : decode cX3_kindHere 39 = .ok (.if_icmp .ne 8, 3) := dk_160 0 8 (dk_at dksX3_kindHere_1 15 rfl rfl)
theorem dX3_kindHere_42 : decode cX3_kindHere 42 = .ok (.bipush 104, 2) := dk_16 104 (dk_at dksX3_kindHere_1 18 rfl rfl)
theorem dX3_kindHere_44 : decode cX3_kindHere 44 = .ok (.goto 40, 3) := dk_167 0 40 (dk_at dksX3_kindHere_1 20 rfl rfl)
theorem dX3_kindHere_47 : decode cX3_kindHere 47 = .ok (.aload_n 0, 1) := dk_42 (dk_at dksX3_kindHere_1 23 rfl rfl)
theorem dX3_kindHere_48 : decode cX3_kindHere 48 = .ok (.aload_n 0, 1) := dk_42 (dk_at dksX3_kindHere_2 0 rfl rfl)
theorem dX3_kindHere_49 : decode cX3_kindHere 49 = .ok (.getfield 274, 3) := dk_180 1 18 (dk_at dksX3_kindHere_2 1 rfl rfl)
theorem dX3_kindHere_52 : decode cX3_kindHere 52 = .ok (.iconst 1, 1) := dk_4 (dk_at dksX3_kindHere_2 4 rfl rfl)
theorem dX3_kindHere_53 : decode cX3_kindHere 53 = .ok (.iadd, 1) := dk_96 (dk_at dksX3_kindHere_2 5 rfl rfl)
theorem dX3_kindHere_54 : decode cX3_kindHere 54 = .ok (.invokevirtual 285, 3) := dk_182 1 29 (dk_at dksX3_kindHere_2 6 rfl rfl)
theorem dX3_kindHere_57 : decode cX3_kindHere 57 = .ok (.bipush 101, 2) := dk_16 101 (dk_at dksX3_kindHere_2 9 rfl rfl)
theorem dX3_kindHere_59 : decode cX3_kindHere 59 = .ok (.if_icmp .ne 23, 3) := dk_160 0 23 (dk_at dksX3_kindHere_2 11 rfl rfl)
theorem dX3_kindHere_62 : decode cX3_kindHere 62 = .ok (.aload_n 0, 1) := dk_42 (dk_at dksX3_kindHere_2 14 rfl rfl)
theorem dX3_kindHere_63 : decode cX3_kindHere 63 = .ok (.aload_n 0, 1) := dk_42 (dk_at dksX3_kindHere_2 15 rfl rfl)
theorem dX3_kindHere_64 : decode cX3_kindHere 64 = .ok (.getfield 274, 3) := dk_180 1 18 (dk_at dksX3_kindHere_2 16 rfl rfl)
theorem dX3_kindHere_67 : decode cX3_kindHere 67 = .ok (.iconst 2, 1) := dk_5 (dk_at dksX3_kindHere_2 19 rfl rfl)
theorem dX3_kindHere_68 : decode cX3_kindHere 68 = .ok (.iadd, 1) := dk_96 (dk_at dksX3_kindHere_2 20 rfl rfl)
theorem dX3_kindHere_69 : decode cX3_kindHere 69 = .ok (.invokevirtual 285, 3) := dk_182 1 29 (dk_at dksX3_kindHere_2 21 rfl rfl)
theorem dX3_kindHere_72 : decode cX3_kindHere 72 = .ok (.bipush 97, 2) := dk_16 97 (dk_at dksX3_kindHere_3 0 rfl rfl)
theorem dX3_kindHere_74 : decode cX3_kindHere 74 = .ok (.if_icmp .ne 8, 3) := dk_160 0 8 (dk_at dksX3_kindHere_3 2 rfl rfl)
theorem dX3_kindHere_77 : decode cX3_kindHere 77 = .ok (.bipush 97, 2) := dk_16 97 (dk_at dksX3_kindHere_3 5 rfl rfl)
theorem dX3_kindHere_79 : decode cX3_kindHere 79 = .ok (.goto 5, 3) := dk_167 0 5 (dk_at dksX3_kindHere_3 7 rfl rfl)
theorem dX3_kindHere_82 : decode cX3_kindHere 82 = .ok (.bipush 101, 2) := dk_16 101 (dk_at dksX3_kindHere_3 10 rfl rfl)
theorem dX3_kindHere_84 : decode cX3_kindHere 84 = .ok (.ireturn, 1) := dk_172 (dk_at dksX3_kindHere_3 12 rfl rfl)
theorem dX3_kindHere_85 : decode cX3_kindHere 85 = .ok (.iload_n 1, 1) := dk_27 (dk_at dksX3_kindHere_3 13 rfl rfl)
theorem dX3_kindHere_86 : decode cX3_kindHere 86 = .ok (.bipush 119, 2) := dk_16 119 (dk_at dksX3_kindHere_3 14 rfl rfl)
theorem dX3_kindHere_88 : decode cX3_kindHere 88 = .ok (.if_icmp .eq 15, 3) := dk_159 0 15 (dk_at dksX3_kindHere_3 16 rfl rfl)
theorem dX3_kindHere_91 : decode cX3_kindHere 91 = .ok (.iload_n 1, 1) := dk_27 (dk_at dksX3_kindHere_3 19 rfl rfl)
theorem dX3_kindHere_92 : decode cX3_kindHere 92 = .ok (.bipush 102, 2) := dk_16 102 (dk_at dksX3_kindHere_3 20 rfl rfl)
theorem dX3_kindHere_94 : decode cX3_kindHere 94 = .ok (.if_icmp .eq 9, 3) := dk_159 0 9 (dk_at dksX3_kindHere_4 0 rfl rfl)
theorem dX3_kindHere_97 : decode cX3_kindHere 97 = .ok (.iload_n 1, 1) := dk_27 (dk_at dksX3_kindHere_4 3 rfl rfl)
theorem dX3_kindHere_98 : decode cX3_kindHere 98 = .ok (.bipush 108, 2) := dk_16 108 (dk_at dksX3_kindHere_4 4 rfl rfl)
theorem dX3_kindHere_100 : decode cX3_kindHere 100 = .ok (.if_icmp .ne 7, 3) := dk_160 0 7 (dk_at dksX3_kindHere_4 6 rfl rfl)
theorem dX3_kindHere_103 : decode cX3_kindHere 103 = .ok (.iload_n 1, 1) := dk_27 (dk_at dksX3_kindHere_4 9 rfl rfl)
theorem dX3_kindHere_104 : decode cX3_kindHere 104 = .ok (.goto 5, 3) := dk_167 0 5 (dk_at dksX3_kindHere_4 10 rfl rfl)
theorem dX3_kindHere_107 : decode cX3_kindHere 107 = .ok (.bipush 100, 2) := dk_16 100 (dk_at dksX3_kindHere_4 13 rfl rfl)
theorem dX3_kindHere_109 : decode cX3_kindHere 109 = .ok (.ireturn, 1) := dk_172 (dk_at dksX3_kindHere_4 15 rfl rfl)
abbrev cX3_signAt : ByteArray := prog_14_method_91_code
def yX3_signAt : MethodName := ⟨RX3, "signAt", "(I)C"⟩
def dkwX3_signAt_0 : List UInt8 := [27, 42, 180, 0, 255, 162, 0, 12, 42, 180, 0, 34, 27, 52, 167, 0, 5, 16, 32, 172]
abbrev dktX3_signAt_0 : List UInt8 := dkwX3_signAt_0 ++ []
theorem dksX3_signAt_0 : cX3_signAt.data.toList.drop 0 = dktX3_signAt_0 := by decide +kernel
theorem dX3_signAt_0 : decode cX3_signAt 0 = .ok (.iload_n 1, 1) := dk_27 (dk_at dksX3_signAt_0 0 rfl rfl)
theorem dX3_signAt_1 : decode cX3_signAt 1 = .ok (.aload_n 0, 1) := dk_42 (dk_at dksX3_signAt_0 1 rfl rfl)
theorem dX3_signAt_2 : decode cX3_signAt 2 = .ok (.getfield 255, 3) := dk_180 0 255 (dk_at dksX3_signAt_0 2 rfl rfl)
theorem dX3_signAt_5 : decode cX3_signAt 5 = .ok (.if_icmp .ge 12, 3) := dk_162 0 12 (dk_at dksX3_signAt_0 5 rfl rfl)
theorem dX3_signAt_8 : decode cX3_signAt 8 = .ok (.aload_n 0, 1) := dk_42 (dk_at dksX3_signAt_0 8 rfl rfl)
theorem dX3_signAt_9 : decode cX3_signAt 9 = .ok (.getfield 34, 3) := dk_180 0 34 (dk_at dksX3_signAt_0 9 rfl rfl)
theorem dX3_signAt_12 : decode cX3_signAt 12 = .ok (.iload_n 1, 1) := dk_27 (dk_at dksX3_signAt_0 12 rfl rfl)
theorem dX3_signAt_13 : decode cX3_signAt 13 = .ok (.caload, 1) := dk_52 (dk_at dksX3_signAt_0 13 rfl rfl)
theorem dX3_signAt_14 : decode cX3_signAt 14 = .ok (.goto 5, 3) := dk_167 0 5 (dk_at dksX3_signAt_0 14 rfl rfl)
theorem dX3_signAt_17 : decode cX3_signAt 17 = .ok (.bipush 32, 2) := dk_16 32 (dk_at dksX3_signAt_0 17 rfl rfl)
theorem dX3_signAt_19 : decode cX3_signAt 19 = .ok (.ireturn, 1) := dk_172 (dk_at dksX3_signAt_0 19 rfl rfl)
abbrev cX3_wordOf : ByteArray := prog_14_method_93_code
def yX3_wordOf : MethodName := ⟨RX3, "wordOf", "(C)Ljava/lang/String;"⟩
def dkwX3_wordOf_3 : List UInt8 := [19, 1, 44, 176]
abbrev dktX3_wordOf_3 : List UInt8 := dkwX3_wordOf_3 ++ []
def dkwX3_wordOf_2 : List UInt8 := [19, 1, 32, 176, 19, 1, 34, 176, 19, 1, 36, 176, 19, 1, 38, 176, 19, 1, 40, 176, 19, 1, 42, 176]
abbrev dktX3_wordOf_2 : List UInt8 := dkwX3_wordOf_2 ++ dktX3_wordOf_3
def dkwX3_wordOf_1 : List UInt8 := [171, 0, 0, 0, 0, 0, 83, 0, 0, 0, 6, 0, 0, 0, 97, 0, 0, 0, 79, 0, 0, 0, 101, 0, 0, 0, 71, 0, 0, 0, 102, 0, 0, 0, 67, 0, 0, 0, 104, 0, 0, 0, 63, 0, 0, 0, 108, 0, 0, 0, 75, 0, 0, 0, 119, 0, 0, 0, 59]
abbrev dktX3_wordOf_1 : List UInt8 := dkwX3_wordOf_1 ++ dktX3_wordOf_2
def dkwX3_wordOf_0 : List UInt8 := [26]
abbrev dktX3_wordOf_0 : List UInt8 := dkwX3_wordOf_0 ++ dktX3_wordOf_1
theorem dksX3_wordOf_0 : cX3_wordOf.data.toList.drop 0 = dktX3_wordOf_0 := by decide +kernel
theorem dksX3_wordOf_1 : cX3_wordOf.data.toList.drop 1 = dktX3_wordOf_1 := dk_seg dksX3_wordOf_0 1 rfl rfl
theorem dksX3_wordOf_2 : cX3_wordOf.data.toList.drop 60 = dktX3_wordOf_2 := dk_seg dksX3_wordOf_1 59 rfl rfl
theorem dksX3_wordOf_3 : cX3_wordOf.data.toList.drop 84 = dktX3_wordOf_3 := dk_seg dksX3_wordOf_2 24 rfl rfl
theorem dX3_wordOf_0 : decode cX3_wordOf 0 = .ok (.iload_n 0, 1) := dk_26 (dk_at dksX3_wordOf_0 0 rfl rfl)
theorem dX3_wordOf_1 : decode cX3_wordOf 1 = .ok (.lookupswitch 83 #[(97, 79), (101, 71), (102, 67), (104, 63), (108, 75), (119, 59)], 59) := by decide +kernel
theorem dX3_wordOf_60 : decode cX3_wordOf 60 = .ok (.ldc_w 288, 3) := dk_19 1 32 (dk_at dksX3_wordOf_2 0 rfl rfl)
theorem dX3_wordOf_63 : decode cX3_wordOf 63 = .ok (.areturn, 1) := dk_176 (dk_at dksX3_wordOf_2 3 rfl rfl)
theorem dX3_wordOf_64 : decode cX3_wordOf 64 = .ok (.ldc_w 290, 3) := dk_19 1 34 (dk_at dksX3_wordOf_2 4 rfl rfl)
theorem dX3_wordOf_67 : decode cX3_wordOf 67 = .ok (.areturn, 1) := dk_176 (dk_at dksX3_wordOf_2 7 rfl rfl)
theorem dX3_wordOf_68 : decode cX3_wordOf 68 = .ok (.ldc_w 292, 3) := dk_19 1 36 (dk_at dksX3_wordOf_2 8 rfl rfl)
theorem dX3_wordOf_71 : decode cX3_wordOf 71 = .ok (.areturn, 1) := dk_176 (dk_at dksX3_wordOf_2 11 rfl rfl)
theorem dX3_wordOf_72 : decode cX3_wordOf 72 = .ok (.ldc_w 294, 3) := dk_19 1 38 (dk_at dksX3_wordOf_2 12 rfl rfl)
theorem dX3_wordOf_75 : decode cX3_wordOf 75 = .ok (.areturn, 1) := dk_176 (dk_at dksX3_wordOf_2 15 rfl rfl)
theorem dX3_wordOf_76 : decode cX3_wordOf 76 = .ok (.ldc_w 296, 3) := dk_19 1 40 (dk_at dksX3_wordOf_2 16 rfl rfl)
theorem dX3_wordOf_79 : decode cX3_wordOf 79 = .ok (.areturn, 1) := dk_176 (dk_at dksX3_wordOf_2 19 rfl rfl)
theorem dX3_wordOf_80 : decode cX3_wordOf 80 = .ok (.ldc_w 298, 3) := dk_19 1 42 (dk_at dksX3_wordOf_2 20 rfl rfl)
theorem dX3_wordOf_83 : decode cX3_wordOf 83 = .ok (.areturn, 1) := dk_176 (dk_at dksX3_wordOf_2 23 rfl rfl)
theorem dX3_wordOf_84 : decode cX3_wordOf 84 = .ok (.ldc_w 300, 3) := dk_19 1 44 (dk_at dksX3_wordOf_3 0 rfl rfl)
theorem dX3_wordOf_87 : decode cX3_wordOf 87 = .ok (.areturn, 1) := dk_176 (dk_at dksX3_wordOf_3 3 rfl rfl)
abbrev cX3_must : ByteArray := prog_14_method_89_code
def yX3_must : MethodName := ⟨RX3, "must", "(C)V"⟩
def dkwX3_must_1 : List UInt8 := [89, 180, 1, 18, 42, 180, 1, 15, 153, 0, 7, 3, 167, 0, 4, 4, 96, 181, 1, 18, 177]
abbrev dktX3_must_1 : List UInt8 := dkwX3_must_1 ++ []
def dkwX3_must_0 : List UInt8 := [42, 89, 180, 1, 15, 42, 27, 27, 182, 1, 21, 154, 0, 7, 4, 167, 0, 4, 3, 128, 181, 1, 15, 42]
abbrev dktX3_must_0 : List UInt8 := dkwX3_must_0 ++ dktX3_must_1
theorem dksX3_must_0 : cX3_must.data.toList.drop 0 = dktX3_must_0 := by decide +kernel
theorem dksX3_must_1 : cX3_must.data.toList.drop 24 = dktX3_must_1 := dk_seg dksX3_must_0 24 rfl rfl
theorem dX3_must_0 : decode cX3_must 0 = .ok (.aload_n 0, 1) := dk_42 (dk_at dksX3_must_0 0 rfl rfl)
theorem dX3_must_1 : decode cX3_must 1 = .ok (.dup, 1) := dk_89 (dk_at dksX3_must_0 1 rfl rfl)
theorem dX3_must_2 : decode cX3_must 2 = .ok (.getfield 271, 3) := dk_180 1 15 (dk_at dksX3_must_0 2 rfl rfl)
theorem dX3_must_5 : decode cX3_must 5 = .ok (.aload_n 0, 1) := dk_42 (dk_at dksX3_must_0 5 rfl rfl)
theorem dX3_must_6 : decode cX3_must 6 = .ok (.iload_n 1, 1) := dk_27 (dk_at dksX3_must_0 6 rfl rfl)
theorem dX3_must_7 : decode cX3_must 7 = .ok (.iload_n 1, 1) := dk_27 (dk_at dksX3_must_0 7 rfl rfl)
theorem dX3_must_8 : decode cX3_must 8 = .ok (.invokevirtual 277, 3) := dk_182 1 21 (dk_at dksX3_must_0 8 rfl rfl)
theorem dX3_must_11 : decode cX3_must 11 = .ok (.ifCond .ne 7, 3) := dk_154 0 7 (dk_at dksX3_must_0 11 rfl rfl)
theorem dX3_must_14 : decode cX3_must 14 = .ok (.iconst 1, 1) := dk_4 (dk_at dksX3_must_0 14 rfl rfl)
theorem dX3_must_15 : decode cX3_must 15 = .ok (.goto 4, 3) := dk_167 0 4 (dk_at dksX3_must_0 15 rfl rfl)
theorem dX3_must_18 : decode cX3_must 18 = .ok (.iconst 0, 1) := dk_3 (dk_at dksX3_must_0 18 rfl rfl)
theorem dX3_must_19 : decode cX3_must 19 = .ok (.ior, 1) := dk_128 (dk_at dksX3_must_0 19 rfl rfl)
theorem dX3_must_20 : decode cX3_must 20 = .ok (.putfield 271, 3) := dk_181 1 15 (dk_at dksX3_must_0 20 rfl rfl)
theorem dX3_must_23 : decode cX3_must 23 = .ok (.aload_n 0, 1) := dk_42 (dk_at dksX3_must_0 23 rfl rfl)
theorem dX3_must_24 : decode cX3_must 24 = .ok (.dup, 1) := dk_89 (dk_at dksX3_must_1 0 rfl rfl)
theorem dX3_must_25 : decode cX3_must 25 = .ok (.getfield 274, 3) := dk_180 1 18 (dk_at dksX3_must_1 1 rfl rfl)
theorem dX3_must_28 : decode cX3_must 28 = .ok (.aload_n 0, 1) := dk_42 (dk_at dksX3_must_1 4 rfl rfl)
theorem dX3_must_29 : decode cX3_must 29 = .ok (.getfield 271, 3) := dk_180 1 15 (dk_at dksX3_must_1 5 rfl rfl)
theorem dX3_must_32 : decode cX3_must 32 = .ok (.ifCond .eq 7, 3) := dk_153 0 7 (dk_at dksX3_must_1 8 rfl rfl)
theorem dX3_must_35 : decode cX3_must 35 = .ok (.iconst 0, 1) := dk_3 (dk_at dksX3_must_1 11 rfl rfl)
theorem dX3_must_36 : decode cX3_must 36 = .ok (.goto 4, 3) := dk_167 0 4 (dk_at dksX3_must_1 12 rfl rfl)
theorem dX3_must_39 : decode cX3_must 39 = .ok (.iconst 1, 1) := dk_4 (dk_at dksX3_must_1 15 rfl rfl)
theorem dX3_must_40 : decode cX3_must 40 = .ok (.iadd, 1) := dk_96 (dk_at dksX3_must_1 16 rfl rfl)
theorem dX3_must_41 : decode cX3_must 41 = .ok (.putfield 274, 3) := dk_181 1 18 (dk_at dksX3_must_1 17 rfl rfl)
theorem dX3_must_44 : decode cX3_must 44 = .ok (.return_, 1) := dk_177 (dk_at dksX3_must_1 20 rfl rfl)
abbrev cX3_sees : ByteArray := prog_14_method_88_code
def yX3_sees : MethodName := ⟨RX3, "sees", "(CC)Z"⟩
def dkwX3_sees_1 : List UInt8 := [180, 1, 18, 52, 27, 28, 184, 0, 68, 153, 0, 7, 4, 167, 0, 4, 3, 172]
abbrev dktX3_sees_1 : List UInt8 := dkwX3_sees_1 ++ []
def dkwX3_sees_0 : List UInt8 := [42, 180, 1, 15, 154, 0, 35, 42, 180, 1, 18, 42, 180, 0, 255, 162, 0, 24, 42, 180, 0, 34, 42]
abbrev dktX3_sees_0 : List UInt8 := dkwX3_sees_0 ++ dktX3_sees_1
theorem dksX3_sees_0 : cX3_sees.data.toList.drop 0 = dktX3_sees_0 := by decide +kernel
theorem dksX3_sees_1 : cX3_sees.data.toList.drop 23 = dktX3_sees_1 := dk_seg dksX3_sees_0 23 rfl rfl
theorem dX3_sees_0 : decode cX3_sees 0 = .ok (.aload_n 0, 1) := dk_42 (dk_at dksX3_sees_0 0 rfl rfl)
theorem dX3_sees_1 : decode cX3_sees 1 = .ok (.getfield 271, 3) := dk_180 1 15 (dk_at dksX3_sees_0 1 rfl rfl)
theorem dX3_sees_4 : decode cX3_sees 4 = .ok (.ifCond .ne 35, 3) := dk_154 0 35 (dk_at dksX3_sees_0 4 rfl rfl)
theorem dX3_sees_7 : decode cX3_sees 7 = .ok (.aload_n 0, 1) := dk_42 (dk_at dksX3_sees_0 7 rfl rfl)
theorem dX3_sees_8 : decode cX3_sees 8 = .ok (.getfield 274, 3) := dk_180 1 18 (dk_at dksX3_sees_0 8 rfl rfl)
theorem dX3_sees_11 : decode cX3_sees 11 = .ok (.aload_n 0, 1) := dk_42 (dk_at dksX3_sees_0 11 rfl rfl)
theorem dX3_sees_12 : decode cX3_sees 12 = .ok (.getfield 255, 3) := dk_180 0 255 (dk_at dksX3_sees_0 12 rfl rfl)
theorem dX3_sees_15 : decode cX3_sees 15 = .ok (.if_icmp .ge 24, 3) := dk_162 0 24 (dk_at dksX3_sees_0 15 rfl rfl)
theorem dX3_sees_18 : decode cX3_sees 18 = .ok (.aload_n 0, 1) := dk_42 (dk_at dksX3_sees_0 18 rfl rfl)
theorem dX3_sees_19 : decode cX3_sees 19 = .ok (.getfield 34, 3) := dk_180 0 34 (dk_at dksX3_sees_0 19 rfl rfl)
theorem dX3_sees_22 : decode cX3_sees 22 = .ok (.aload_n 0, 1) := dk_42 (dk_at dksX3_sees_0 22 rfl rfl)
theorem dX3_sees_23 : decode cX3_sees 23 = .ok (.getfield 274, 3) := dk_180 1 18 (dk_at dksX3_sees_1 0 rfl rfl)
theorem dX3_sees_26 : decode cX3_sees 26 = .ok (.caload, 1) := dk_52 (dk_at dksX3_sees_1 3 rfl rfl)
theorem dX3_sees_27 : decode cX3_sees 27 = .ok (.iload_n 1, 1) := dk_27 (dk_at dksX3_sees_1 4 rfl rfl)
theorem dX3_sees_28 : decode cX3_sees 28 = .ok (.iload_n 2, 1) := dk_28 (dk_at dksX3_sees_1 5 rfl rfl)
theorem dX3_sees_29 : decode cX3_sees 29 = .ok (.invokestatic 68, 3) := dk_184 0 68 (dk_at dksX3_sees_1 6 rfl rfl)
theorem dX3_sees_32 : decode cX3_sees 32 = .ok (.ifCond .eq 7, 3) := dk_153 0 7 (dk_at dksX3_sees_1 9 rfl rfl)
theorem dX3_sees_35 : decode cX3_sees 35 = .ok (.iconst 1, 1) := dk_4 (dk_at dksX3_sees_1 12 rfl rfl)
theorem dX3_sees_36 : decode cX3_sees 36 = .ok (.goto 4, 3) := dk_167 0 4 (dk_at dksX3_sees_1 13 rfl rfl)
theorem dX3_sees_39 : decode cX3_sees 39 = .ok (.iconst 0, 1) := dk_3 (dk_at dksX3_sees_1 16 rfl rfl)
theorem dX3_sees_40 : decode cX3_sees 40 = .ok (.ireturn, 1) := dk_172 (dk_at dksX3_sees_1 17 rfl rfl)
abbrev cX3_readNumber : ByteArray := prog_14_method_90_code
def yX3_readNumber : MethodName := ⟨RX3, "readNumber", "(I)I"⟩
def dkwX3_readNumber_3 : List UInt8 := [42, 89, 180, 1, 18, 4, 96, 181, 1, 18, 132, 3, 1, 167, 255, 209, 28, 172]
abbrev dktX3_readNumber_3 : List UInt8 := dkwX3_readNumber_3 ++ []
def dkwX3_readNumber_2 : List UInt8 := [182, 1, 21, 153, 0, 37, 16, 10, 28, 104, 42, 180, 0, 34, 42, 180, 1, 18, 52, 96, 16, 48, 100, 61]
abbrev dktX3_readNumber_2 : List UInt8 := dkwX3_readNumber_2 ++ dktX3_readNumber_3
def dkwX3_readNumber_1 : List UInt8 := [167, 0, 4, 3, 128, 181, 1, 15, 3, 61, 3, 62, 29, 27, 162, 0, 48, 42, 16, 48, 16, 57]
abbrev dktX3_readNumber_1 : List UInt8 := dkwX3_readNumber_1 ++ dktX3_readNumber_2
def dkwX3_readNumber_0 : List UInt8 := [42, 16, 32, 182, 1, 25, 42, 89, 180, 1, 15, 42, 16, 48, 16, 57, 182, 1, 21, 154, 0, 7, 4]
abbrev dktX3_readNumber_0 : List UInt8 := dkwX3_readNumber_0 ++ dktX3_readNumber_1
theorem dksX3_readNumber_0 : cX3_readNumber.data.toList.drop 0 = dktX3_readNumber_0 := by decide +kernel
theorem dksX3_readNumber_1 : cX3_readNumber.data.toList.drop 23 = dktX3_readNumber_1 := dk_seg dksX3_readNumber_0 23 rfl rfl
theorem dksX3_readNumber_2 : cX3_readNumber.data.toList.drop 45 = dktX3_readNumber_2 := dk_seg dksX3_readNumber_1 22 rfl rfl
theorem dksX3_readNumber_3 : cX3_readNumber.data.toList.drop 69 = dktX3_readNumber_3 := dk_seg dksX3_readNumber_2 24 rfl rfl
theorem dX3_readNumber_0 : decode cX3_readNumber 0 = .ok (.aload_n 0, 1) := dk_42 (dk_at dksX3_readNumber_0 0 rfl rfl)
theorem dX3_readNumber_1 : decode cX3_readNumber 1 = .ok (.bipush 32, 2) := dk_16 32 (dk_at dksX3_readNumber_0 1 rfl rfl)
theorem dX3_readNumber_3 : decode cX3_readNumber 3 = .ok (.invokevirtual 281, 3) := dk_182 1 25 (dk_at dksX3_readNumber_0 3 rfl rfl)
theorem dX3_readNumber_6 : decode cX3_readNumber 6 = .ok (.aload_n 0, 1) := dk_42 (dk_at dksX3_readNumber_0 6 rfl rfl)
theorem dX3_readNumber_7 : decode cX3_readNumber 7 = .ok (.dup, 1) := dk_89 (dk_at dksX3_readNumber_0 7 rfl rfl)
theorem dX3_readNumber_8 : decode cX3_readNumber 8 = .ok (.getfield 271, 3) := dk_180 1 15 (dk_at dksX3_readNumber_0 8 rfl rfl)
theorem dX3_readNumber_11 : decode cX3_readNumber 11 = .ok (.aload_n 0, 1) := dk_42 (dk_at dksX3_readNumber_0 11 rfl rfl)
theorem dX3_readNumber_12 : decode cX3_readNumber 12 = .ok (.bipush 48, 2) := dk_16 48 (dk_at dksX3_readNumber_0 12 rfl rfl)
theorem dX3_readNumber_14 : decode cX3_readNumber 14 = .ok (.bipush 57, 2) := dk_16 57 (dk_at dksX3_readNumber_0 14 rfl rfl)
theorem dX3_readNumber_16 : decode cX3_readNumber 16 = .ok (.invokevirtual 277, 3) := dk_182 1 21 (dk_at dksX3_readNumber_0 16 rfl rfl)
theorem dX3_readNumber_19 : decode cX3_readNumber 19 = .ok (.ifCond .ne 7, 3) := dk_154 0 7 (dk_at dksX3_readNumber_0 19 rfl rfl)
theorem dX3_readNumber_22 : decode cX3_readNumber 22 = .ok (.iconst 1, 1) := dk_4 (dk_at dksX3_readNumber_0 22 rfl rfl)
theorem dX3_readNumber_23 : decode cX3_readNumber 23 = .ok (.goto 4, 3) := dk_167 0 4 (dk_at dksX3_readNumber_1 0 rfl rfl)
theorem dX3_readNumber_26 : decode cX3_readNumber 26 = .ok (.iconst 0, 1) := dk_3 (dk_at dksX3_readNumber_1 3 rfl rfl)
theorem dX3_readNumber_27 : decode cX3_readNumber 27 = .ok (.ior, 1) := dk_128 (dk_at dksX3_readNumber_1 4 rfl rfl)
theorem dX3_readNumber_28 : decode cX3_readNumber 28 = .ok (.putfield 271, 3) := dk_181 1 15 (dk_at dksX3_readNumber_1 5 rfl rfl)
theorem dX3_readNumber_31 : decode cX3_readNumber 31 = .ok (.iconst 0, 1) := dk_3 (dk_at dksX3_readNumber_1 8 rfl rfl)
theorem dX3_readNumber_32 : decode cX3_readNumber 32 = .ok (.istore_n 2, 1) := dk_61 (dk_at dksX3_readNumber_1 9 rfl rfl)
theorem dX3_readNumber_33 : decode cX3_readNumber 33 = .ok (.iconst 0, 1) := dk_3 (dk_at dksX3_readNumber_1 10 rfl rfl)
theorem dX3_readNumber_34 : decode cX3_readNumber 34 = .ok (.istore_n 3, 1) := dk_62 (dk_at dksX3_readNumber_1 11 rfl rfl)
theorem dX3_readNumber_35 : decode cX3_readNumber 35 = .ok (.iload_n 3, 1) := dk_29 (dk_at dksX3_readNumber_1 12 rfl rfl)
theorem dX3_readNumber_36 : decode cX3_readNumber 36 = .ok (.iload_n 1, 1) := dk_27 (dk_at dksX3_readNumber_1 13 rfl rfl)
theorem dX3_readNumber_37 : decode cX3_readNumber 37 = .ok (.if_icmp .ge 48, 3) := dk_162 0 48 (dk_at dksX3_readNumber_1 14 rfl rfl)
theorem dX3_readNumber_40 : decode cX3_readNumber 40 = .ok (.aload_n 0, 1) := dk_42 (dk_at dksX3_readNumber_1 17 rfl rfl)
theorem dX3_readNumber_41 : decode cX3_readNumber 41 = .ok (.bipush 48, 2) := dk_16 48 (dk_at dksX3_readNumber_1 18 rfl rfl)
theorem dX3_readNumber_43 : decode cX3_readNumber 43 = .ok (.bipush 57, 2) := dk_16 57 (dk_at dksX3_readNumber_1 20 rfl rfl)
theorem dX3_readNumber_45 : decode cX3_readNumber 45 = .ok (.invokevirtual 277, 3) := dk_182 1 21 (dk_at dksX3_readNumber_2 0 rfl rfl)
theorem dX3_readNumber_48 : decode cX3_readNumber 48 = .ok (.ifCond .eq 37, 3) := dk_153 0 37 (dk_at dksX3_readNumber_2 3 rfl rfl)
theorem dX3_readNumber_51 : decode cX3_readNumber 51 = .ok (.bipush 10, 2) := dk_16 10 (dk_at dksX3_readNumber_2 6 rfl rfl)
theorem dX3_readNumber_53 : decode cX3_readNumber 53 = .ok (.iload_n 2, 1) := dk_28 (dk_at dksX3_readNumber_2 8 rfl rfl)
theorem dX3_readNumber_54 : decode cX3_readNumber 54 = .ok (.imul, 1) := dk_104 (dk_at dksX3_readNumber_2 9 rfl rfl)
theorem dX3_readNumber_55 : decode cX3_readNumber 55 = .ok (.aload_n 0, 1) := dk_42 (dk_at dksX3_readNumber_2 10 rfl rfl)
theorem dX3_readNumber_56 : decode cX3_readNumber 56 = .ok (.getfield 34, 3) := dk_180 0 34 (dk_at dksX3_readNumber_2 11 rfl rfl)
theorem dX3_readNumber_59 : decode cX3_readNumber 59 = .ok (.aload_n 0, 1) := dk_42 (dk_at dksX3_readNumber_2 14 rfl rfl)
theorem dX3_readNumber_60 : decode cX3_readNumber 60 = .ok (.getfield 274, 3) := dk_180 1 18 (dk_at dksX3_readNumber_2 15 rfl rfl)
theorem dX3_readNumber_63 : decode cX3_readNumber 63 = .ok (.caload, 1) := dk_52 (dk_at dksX3_readNumber_2 18 rfl rfl)
theorem dX3_readNumber_64 : decode cX3_readNumber 64 = .ok (.iadd, 1) := dk_96 (dk_at dksX3_readNumber_2 19 rfl rfl)
theorem dX3_readNumber_65 : decode cX3_readNumber 65 = .ok (.bipush 48, 2) := dk_16 48 (dk_at dksX3_readNumber_2 20 rfl rfl)
theorem dX3_readNumber_67 : decode cX3_readNumber 67 = .ok (.isub, 1) := dk_100 (dk_at dksX3_readNumber_2 22 rfl rfl)
theorem dX3_readNumber_68 : decode cX3_readNumber 68 = .ok (.istore_n 2, 1) := dk_61 (dk_at dksX3_readNumber_2 23 rfl rfl)
theorem dX3_readNumber_69 : decode cX3_readNumber 69 = .ok (.aload_n 0, 1) := dk_42 (dk_at dksX3_readNumber_3 0 rfl rfl)
theorem dX3_readNumber_70 : decode cX3_readNumber 70 = .ok (.dup, 1) := dk_89 (dk_at dksX3_readNumber_3 1 rfl rfl)
theorem dX3_readNumber_71 : decode cX3_readNumber 71 = .ok (.getfield 274, 3) := dk_180 1 18 (dk_at dksX3_readNumber_3 2 rfl rfl)
theorem dX3_readNumber_74 : decode cX3_readNumber 74 = .ok (.iconst 1, 1) := dk_4 (dk_at dksX3_readNumber_3 5 rfl rfl)
theorem dX3_readNumber_75 : decode cX3_readNumber 75 = .ok (.iadd, 1) := dk_96 (dk_at dksX3_readNumber_3 6 rfl rfl)
theorem dX3_readNumber_76 : decode cX3_readNumber 76 = .ok (.putfield 274, 3) := dk_181 1 18 (dk_at dksX3_readNumber_3 7 rfl rfl)
theorem dX3_readNumber_79 : decode cX3_readNumber 79 = .ok (.iinc 3 1, 3) := dk_132 3 1 (dk_at dksX3_readNumber_3 10 rfl rfl)
theorem dX3_readNumber_82 : decode cX3_readNumber 82 = .ok (.goto (-47), 3) := dk_167 255 209 (dk_at dksX3_readNumber_3 13 rfl rfl)
theorem dX3_readNumber_85 : decode cX3_readNumber 85 = .ok (.iload_n 2, 1) := dk_28 (dk_at dksX3_readNumber_3 16 rfl rfl)
theorem dX3_readNumber_86 : decode cX3_readNumber 86 = .ok (.ireturn, 1) := dk_172 (dk_at dksX3_readNumber_3 17 rfl rfl)
abbrev cX3_carryOut : ByteArray := prog_14_method_96_code
def yX3_carryOut : MethodName := ⟨RX3, "carryOut", "()I"⟩
def dkwX3_carryOut_5 : List UInt8 := [180, 1, 61, 42, 180, 1, 64, 182, 1, 83, 87, 6, 172, 42, 42, 180, 1, 61, 182, 1, 85, 87, 2, 172]
abbrev dktX3_carryOut_5 : List UInt8 := dkwX3_carryOut_5 ++ []
def dkwX3_carryOut_4 : List UInt8 := [180, 1, 61, 182, 1, 79, 87, 5, 172, 42, 42, 180, 1, 61, 182, 1, 81, 87, 5, 172, 42, 42]
abbrev dktX3_carryOut_4 : List UInt8 := dkwX3_carryOut_4 ++ dktX3_carryOut_5
def dkwX3_carryOut_3 : List UInt8 := [42, 180, 1, 67, 182, 1, 75, 87, 6, 172, 42, 42, 180, 1, 61, 182, 1, 77, 87, 5, 172, 42, 42]
abbrev dktX3_carryOut_3 : List UInt8 := dkwX3_carryOut_3 ++ dktX3_carryOut_4
def dkwX3_carryOut_2 : List UInt8 := [42, 42, 180, 1, 61, 42, 180, 1, 64, 182, 1, 73, 87, 5, 172, 42, 42, 180, 1, 61, 42, 180, 1, 64]
abbrev dktX3_carryOut_2 : List UInt8 := dkwX3_carryOut_2 ++ dktX3_carryOut_3
def dkwX3_carryOut_1 : List UInt8 := [171, 0, 0, 0, 0, 0, 0, 142, 0, 0, 0, 6, 0, 0, 0, 97, 0, 0, 0, 127, 0, 0, 0, 101, 0, 0, 0, 105, 0, 0, 0, 102, 0, 0, 0, 94, 0, 0, 0, 104, 0, 0, 0, 75, 0, 0, 0, 108, 0, 0, 0, 116, 0, 0, 0, 119, 0, 0, 0, 60]
abbrev dktX3_carryOut_1 : List UInt8 := dkwX3_carryOut_1 ++ dktX3_carryOut_2
def dkwX3_carryOut_0 : List UInt8 := [42, 180, 1, 50]
abbrev dktX3_carryOut_0 : List UInt8 := dkwX3_carryOut_0 ++ dktX3_carryOut_1
theorem dksX3_carryOut_0 : cX3_carryOut.data.toList.drop 0 = dktX3_carryOut_0 := by decide +kernel
theorem dksX3_carryOut_1 : cX3_carryOut.data.toList.drop 4 = dktX3_carryOut_1 := dk_seg dksX3_carryOut_0 4 rfl rfl
theorem dksX3_carryOut_2 : cX3_carryOut.data.toList.drop 64 = dktX3_carryOut_2 := dk_seg dksX3_carryOut_1 60 rfl rfl
theorem dksX3_carryOut_3 : cX3_carryOut.data.toList.drop 88 = dktX3_carryOut_3 := dk_seg dksX3_carryOut_2 24 rfl rfl
theorem dksX3_carryOut_4 : cX3_carryOut.data.toList.drop 111 = dktX3_carryOut_4 := dk_seg dksX3_carryOut_3 23 rfl rfl
theorem dksX3_carryOut_5 : cX3_carryOut.data.toList.drop 133 = dktX3_carryOut_5 := dk_seg dksX3_carryOut_4 22 rfl rfl
theorem dX3_carryOut_0 : decode cX3_carryOut 0 = .ok (.aload_n 0, 1) := dk_42 (dk_at dksX3_carryOut_0 0 rfl rfl)
theorem dX3_carryOut_1 : decode cX3_carryOut 1 = .ok (.getfield 306, 3) := dk_180 1 50 (dk_at dksX3_carryOut_0 1 rfl rfl)
theorem dX3_carryOut_4 : decode cX3_carryOut 4 = .ok (.lookupswitch 142 #[(97, 127), (101, 105), (102, 94), (104, 75), (108, 116), (119, 60)], 60) := by decide +kernel
theorem dX3_carryOut_64 : decode cX3_carryOut 64 = .ok (.aload_n 0, 1) := dk_42 (dk_at dksX3_carryOut_2 0 rfl rfl)
theorem dX3_carryOut_65 : decode cX3_carryOut 65 = .ok (.aload_n 0, 1) := dk_42 (dk_at dksX3_carryOut_2 1 rfl rfl)
theorem dX3_carryOut_66 : decode cX3_carryOut 66 = .ok (.getfield 317, 3) := dk_180 1 61 (dk_at dksX3_carryOut_2 2 rfl rfl)
theorem dX3_carryOut_69 : decode cX3_carryOut 69 = .ok (.aload_n 0, 1) := dk_42 (dk_at dksX3_carryOut_2 5 rfl rfl)
theorem dX3_carryOut_70 : decode cX3_carryOut 70 = .ok (.getfield 320, 3) := dk_180 1 64 (dk_at dksX3_carryOut_2 6 rfl rfl)
theorem dX3_carryOut_73 : decode cX3_carryOut 73 = .ok (.invokevirtual 329, 3) := dk_182 1 73 (dk_at dksX3_carryOut_2 9 rfl rfl)
theorem dX3_carryOut_76 : decode cX3_carryOut 76 = .ok (.pop, 1) := dk_87 (dk_at dksX3_carryOut_2 12 rfl rfl)
theorem dX3_carryOut_77 : decode cX3_carryOut 77 = .ok (.iconst 2, 1) := dk_5 (dk_at dksX3_carryOut_2 13 rfl rfl)
theorem dX3_carryOut_78 : decode cX3_carryOut 78 = .ok (.ireturn, 1) := dk_172 (dk_at dksX3_carryOut_2 14 rfl rfl)
theorem dX3_carryOut_79 : decode cX3_carryOut 79 = .ok (.aload_n 0, 1) := dk_42 (dk_at dksX3_carryOut_2 15 rfl rfl)
theorem dX3_carryOut_80 : decode cX3_carryOut 80 = .ok (.aload_n 0, 1) := dk_42 (dk_at dksX3_carryOut_2 16 rfl rfl)
theorem dX3_carryOut_81 : decode cX3_carryOut 81 = .ok (.getfield 317, 3) := dk_180 1 61 (dk_at dksX3_carryOut_2 17 rfl rfl)
theorem dX3_carryOut_84 : decode cX3_carryOut 84 = .ok (.aload_n 0, 1) := dk_42 (dk_at dksX3_carryOut_2 20 rfl rfl)
theorem dX3_carryOut_85 : decode cX3_carryOut 85 = .ok (.getfield 320, 3) := dk_180 1 64 (dk_at dksX3_carryOut_2 21 rfl rfl)
theorem dX3_carryOut_88 : decode cX3_carryOut 88 = .ok (.aload_n 0, 1) := dk_42 (dk_at dksX3_carryOut_3 0 rfl rfl)
theorem dX3_carryOut_89 : decode cX3_carryOut 89 = .ok (.getfield 323, 3) := dk_180 1 67 (dk_at dksX3_carryOut_3 1 rfl rfl)
theorem dX3_carryOut_92 : decode cX3_carryOut 92 = .ok (.invokevirtual 331, 3) := dk_182 1 75 (dk_at dksX3_carryOut_3 4 rfl rfl)
theorem dX3_carryOut_95 : decode cX3_carryOut 95 = .ok (.pop, 1) := dk_87 (dk_at dksX3_carryOut_3 7 rfl rfl)
theorem dX3_carryOut_96 : decode cX3_carryOut 96 = .ok (.iconst 3, 1) := dk_6 (dk_at dksX3_carryOut_3 8 rfl rfl)
theorem dX3_carryOut_97 : decode cX3_carryOut 97 = .ok (.ireturn, 1) := dk_172 (dk_at dksX3_carryOut_3 9 rfl rfl)
theorem dX3_carryOut_98 : decode cX3_carryOut 98 = .ok (.aload_n 0, 1) := dk_42 (dk_at dksX3_carryOut_3 10 rfl rfl)
theorem dX3_carryOut_99 : decode cX3_carryOut 99 = .ok (.aload_n 0, 1) := dk_42 (dk_at dksX3_carryOut_3 11 rfl rfl)
theorem dX3_carryOut_100 : decode cX3_carryOut 100 = .ok (.getfield 317, 3) := dk_180 1 61 (dk_at dksX3_carryOut_3 12 rfl rfl)
theorem dX3_carryOut_103 : decode cX3_carryOut 103 = .ok (.invokevirtual 333, 3) := dk_182 1 77 (dk_at dksX3_carryOut_3 15 rfl rfl)
theorem dX3_carryOut_106 : decode cX3_carryOut 106 = .ok (.pop, 1) := dk_87 (dk_at dksX3_carryOut_3 18 rfl rfl)
theorem dX3_carryOut_107 : decode cX3_carryOut 107 = .ok (.iconst 2, 1) := dk_5 (dk_at dksX3_carryOut_3 19 rfl rfl)
theorem dX3_carryOut_108 : decode cX3_carryOut 108 = .ok (.ireturn, 1) := dk_172 (dk_at dksX3_carryOut_3 20 rfl rfl)
theorem dX3_carryOut_109 : decode cX3_carryOut 109 = .ok (.aload_n 0, 1) := dk_42 (dk_at dksX3_carryOut_3 21 rfl rfl)
theorem dX3_carryOut_110 : decode cX3_carryOut 110 = .ok (.aload_n 0, 1) := dk_42 (dk_at dksX3_carryOut_3 22 rfl rfl)
theorem dX3_carryOut_111 : decode cX3_carryOut 111 = .ok (.getfield 317, 3) := dk_180 1 61 (dk_at dksX3_carryOut_4 0 rfl rfl)
theorem dX3_carryOut_114 : decode cX3_carryOut 114 = .ok (.invokevirtual 335, 3) := dk_182 1 79 (dk_at dksX3_carryOut_4 3 rfl rfl)
theorem dX3_carryOut_117 : decode cX3_carryOut 117 = .ok (.pop, 1) := dk_87 (dk_at dksX3_carryOut_4 6 rfl rfl)
theorem dX3_carryOut_118 : decode cX3_carryOut 118 = .ok (.iconst 2, 1) := dk_5 (dk_at dksX3_carryOut_4 7 rfl rfl)
theorem dX3_carryOut_119 : decode cX3_carryOut 119 = .ok (.ireturn, 1) := dk_172 (dk_at dksX3_carryOut_4 8 rfl rfl)
theorem dX3_carryOut_120 : decode cX3_carryOut 120 = .ok (.aload_n 0, 1) := dk_42 (dk_at dksX3_carryOut_4 9 rfl rfl)
theorem dX3_carryOut_121 : decode cX3_carryOut 121 = .ok (.aload_n 0, 1) := dk_42 (dk_at dksX3_carryOut_4 10 rfl rfl)
theorem dX3_carryOut_122 : decode cX3_carryOut 122 = .ok (.getfield 317, 3) := dk_180 1 61 (dk_at dksX3_carryOut_4 11 rfl rfl)
theorem dX3_carryOut_125 : decode cX3_carryOut 125 = .ok (.invokevirtual 337, 3) := dk_182 1 81 (dk_at dksX3_carryOut_4 14 rfl rfl)
theorem dX3_carryOut_128 : decode cX3_carryOut 128 = .ok (.pop, 1) := dk_87 (dk_at dksX3_carryOut_4 17 rfl rfl)
theorem dX3_carryOut_129 : decode cX3_carryOut 129 = .ok (.iconst 2, 1) := dk_5 (dk_at dksX3_carryOut_4 18 rfl rfl)
theorem dX3_carryOut_130 : decode cX3_carryOut 130 = .ok (.ireturn, 1) := dk_172 (dk_at dksX3_carryOut_4 19 rfl rfl)
theorem dX3_carryOut_131 : decode cX3_carryOut 131 = .ok (.aload_n 0, 1) := dk_42 (dk_at dksX3_carryOut_4 20 rfl rfl)
theorem dX3_carryOut_132 : decode cX3_carryOut 132 = .ok (.aload_n 0, 1) := dk_42 (dk_at dksX3_carryOut_4 21 rfl rfl)
theorem dX3_carryOut_133 : decode cX3_carryOut 133 = .ok (.getfield 317, 3) := dk_180 1 61 (dk_at dksX3_carryOut_5 0 rfl rfl)
theorem dX3_carryOut_136 : decode cX3_carryOut 136 = .ok (.aload_n 0, 1) := dk_42 (dk_at dksX3_carryOut_5 3 rfl rfl)
theorem dX3_carryOut_137 : decode cX3_carryOut 137 = .ok (.getfield 320, 3) := dk_180 1 64 (dk_at dksX3_carryOut_5 4 rfl rfl)
theorem dX3_carryOut_140 : decode cX3_carryOut 140 = .ok (.invokevirtual 339, 3) := dk_182 1 83 (dk_at dksX3_carryOut_5 7 rfl rfl)
theorem dX3_carryOut_143 : decode cX3_carryOut 143 = .ok (.pop, 1) := dk_87 (dk_at dksX3_carryOut_5 10 rfl rfl)
theorem dX3_carryOut_144 : decode cX3_carryOut 144 = .ok (.iconst 3, 1) := dk_6 (dk_at dksX3_carryOut_5 11 rfl rfl)
theorem dX3_carryOut_145 : decode cX3_carryOut 145 = .ok (.ireturn, 1) := dk_172 (dk_at dksX3_carryOut_5 12 rfl rfl)
theorem dX3_carryOut_146 : decode cX3_carryOut 146 = .ok (.aload_n 0, 1) := dk_42 (dk_at dksX3_carryOut_5 13 rfl rfl)
theorem dX3_carryOut_147 : decode cX3_carryOut 147 = .ok (.aload_n 0, 1) := dk_42 (dk_at dksX3_carryOut_5 14 rfl rfl)
theorem dX3_carryOut_148 : decode cX3_carryOut 148 = .ok (.getfield 317, 3) := dk_180 1 61 (dk_at dksX3_carryOut_5 15 rfl rfl)
theorem dX3_carryOut_151 : decode cX3_carryOut 151 = .ok (.invokevirtual 341, 3) := dk_182 1 85 (dk_at dksX3_carryOut_5 18 rfl rfl)
theorem dX3_carryOut_154 : decode cX3_carryOut 154 = .ok (.pop, 1) := dk_87 (dk_at dksX3_carryOut_5 21 rfl rfl)
theorem dX3_carryOut_155 : decode cX3_carryOut 155 = .ok (.iconst (-1), 1) := dk_2 (dk_at dksX3_carryOut_5 22 rfl rfl)
theorem dX3_carryOut_156 : decode cX3_carryOut 156 = .ok (.ireturn, 1) := dk_172 (dk_at dksX3_carryOut_5 23 rfl rfl)
abbrev cX3_refuseText : ByteArray := prog_14_method_97_code
def yX3_refuseText : MethodName := ⟨RX3, "refuseText", "(IZ)V"⟩
def dkwX3_refuseText_1 : List UInt8 := [182, 0, 108, 87, 42, 29, 181, 0, 50, 42, 21, 4, 181, 1, 88, 177]
abbrev dktX3_refuseText_1 : List UInt8 := dkwX3_refuseText_1 ++ []
def dkwX3_refuseText_0 : List UInt8 := [28, 153, 0, 10, 42, 180, 0, 44, 167, 0, 4, 3, 62, 42, 180, 0, 47, 54, 4, 42, 4, 16, 20, 27]
abbrev dktX3_refuseText_0 : List UInt8 := dkwX3_refuseText_0 ++ dktX3_refuseText_1
theorem dksX3_refuseText_0 : cX3_refuseText.data.toList.drop 0 = dktX3_refuseText_0 := by decide +kernel
theorem dksX3_refuseText_1 : cX3_refuseText.data.toList.drop 24 = dktX3_refuseText_1 := dk_seg dksX3_refuseText_0 24 rfl rfl
theorem dX3_refuseText_0 : decode cX3_refuseText 0 = .ok (.iload_n 2, 1) := dk_28 (dk_at dksX3_refuseText_0 0 rfl rfl)
theorem dX3_refuseText_1 : decode cX3_refuseText 1 = .ok (.ifCond .eq 10, 3) := dk_153 0 10 (dk_at dksX3_refuseText_0 1 rfl rfl)
theorem dX3_refuseText_4 : decode cX3_refuseText 4 = .ok (.aload_n 0, 1) := dk_42 (dk_at dksX3_refuseText_0 4 rfl rfl)
theorem dX3_refuseText_5 : decode cX3_refuseText 5 = .ok (.getfield 44, 3) := dk_180 0 44 (dk_at dksX3_refuseText_0 5 rfl rfl)
theorem dX3_refuseText_8 : decode cX3_refuseText 8 = .ok (.goto 4, 3) := dk_167 0 4 (dk_at dksX3_refuseText_0 8 rfl rfl)
theorem dX3_refuseText_11 : decode cX3_refuseText 11 = .ok (.iconst 0, 1) := dk_3 (dk_at dksX3_refuseText_0 11 rfl rfl)
theorem dX3_refuseText_12 : decode cX3_refuseText 12 = .ok (.istore_n 3, 1) := dk_62 (dk_at dksX3_refuseText_0 12 rfl rfl)
theorem dX3_refuseText_13 : decode cX3_refuseText 13 = .ok (.aload_n 0, 1) := dk_42 (dk_at dksX3_refuseText_0 13 rfl rfl)
theorem dX3_refuseText_14 : decode cX3_refuseText 14 = .ok (.getfield 47, 3) := dk_180 0 47 (dk_at dksX3_refuseText_0 14 rfl rfl)
theorem dX3_refuseText_17 : decode cX3_refuseText 17 = .ok (.istore 4, 2) := dk_54 4 (dk_at dksX3_refuseText_0 17 rfl rfl)
theorem dX3_refuseText_19 : decode cX3_refuseText 19 = .ok (.aload_n 0, 1) := dk_42 (dk_at dksX3_refuseText_0 19 rfl rfl)
theorem dX3_refuseText_20 : decode cX3_refuseText 20 = .ok (.iconst 1, 1) := dk_4 (dk_at dksX3_refuseText_0 20 rfl rfl)
theorem dX3_refuseText_21 : decode cX3_refuseText 21 = .ok (.bipush 20, 2) := dk_16 20 (dk_at dksX3_refuseText_0 21 rfl rfl)
theorem dX3_refuseText_23 : decode cX3_refuseText 23 = .ok (.iload_n 1, 1) := dk_27 (dk_at dksX3_refuseText_0 23 rfl rfl)
theorem dX3_refuseText_24 : decode cX3_refuseText 24 = .ok (.invokevirtual 108, 3) := dk_182 0 108 (dk_at dksX3_refuseText_1 0 rfl rfl)
theorem dX3_refuseText_27 : decode cX3_refuseText 27 = .ok (.pop, 1) := dk_87 (dk_at dksX3_refuseText_1 3 rfl rfl)
theorem dX3_refuseText_28 : decode cX3_refuseText 28 = .ok (.aload_n 0, 1) := dk_42 (dk_at dksX3_refuseText_1 4 rfl rfl)
theorem dX3_refuseText_29 : decode cX3_refuseText 29 = .ok (.iload_n 3, 1) := dk_29 (dk_at dksX3_refuseText_1 5 rfl rfl)
theorem dX3_refuseText_30 : decode cX3_refuseText 30 = .ok (.putfield 50, 3) := dk_181 0 50 (dk_at dksX3_refuseText_1 6 rfl rfl)
theorem dX3_refuseText_33 : decode cX3_refuseText 33 = .ok (.aload_n 0, 1) := dk_42 (dk_at dksX3_refuseText_1 9 rfl rfl)
theorem dX3_refuseText_34 : decode cX3_refuseText 34 = .ok (.iload 4, 2) := dk_21 4 (dk_at dksX3_refuseText_1 10 rfl rfl)
theorem dX3_refuseText_36 : decode cX3_refuseText 36 = .ok (.putfield 344, 3) := dk_181 1 88 (dk_at dksX3_refuseText_1 12 rfl rfl)
theorem dX3_refuseText_39 : decode cX3_refuseText 39 = .ok (.return_, 1) := dk_177 (dk_at dksX3_refuseText_1 15 rfl rfl)
abbrev cX3_faultPosition : ByteArray := prog_14_method_99_code
def yX3_faultPosition : MethodName := ⟨RX3, "faultPosition", "()I"⟩
def dkwX3_faultPosition_1 : List UInt8 := [42, 180, 0, 37, 172]
abbrev dktX3_faultPosition_1 : List UInt8 := dkwX3_faultPosition_1 ++ []
def dkwX3_faultPosition_0 : List UInt8 := [42, 4, 42, 180, 0, 37, 156, 0, 7, 4, 167, 0, 4, 3, 182, 0, 94, 153, 0, 7, 3, 167, 0, 7]
abbrev dktX3_faultPosition_0 : List UInt8 := dkwX3_faultPosition_0 ++ dktX3_faultPosition_1
theorem dksX3_faultPosition_0 : cX3_faultPosition.data.toList.drop 0 = dktX3_faultPosition_0 := by decide +kernel
theorem dksX3_faultPosition_1 : cX3_faultPosition.data.toList.drop 24 = dktX3_faultPosition_1 := dk_seg dksX3_faultPosition_0 24 rfl rfl
theorem dX3_faultPosition_0 : decode cX3_faultPosition 0 = .ok (.aload_n 0, 1) := dk_42 (dk_at dksX3_faultPosition_0 0 rfl rfl)
theorem dX3_faultPosition_1 : decode cX3_faultPosition 1 = .ok (.iconst 1, 1) := dk_4 (dk_at dksX3_faultPosition_0 1 rfl rfl)
theorem dX3_faultPosition_2 : decode cX3_faultPosition 2 = .ok (.aload_n 0, 1) := dk_42 (dk_at dksX3_faultPosition_0 2 rfl rfl)
theorem dX3_faultPosition_3 : decode cX3_faultPosition 3 = .ok (.getfield 37, 3) := dk_180 0 37 (dk_at dksX3_faultPosition_0 3 rfl rfl)
theorem dX3_faultPosition_6 : decode cX3_faultPosition 6 = .ok (.ifCond .ge 7, 3) := dk_156 0 7 (dk_at dksX3_faultPosition_0 6 rfl rfl)
theorem dX3_faultPosition_9 : decode cX3_faultPosition 9 = .ok (.iconst 1, 1) := dk_4 (dk_at dksX3_faultPosition_0 9 rfl rfl)
theorem dX3_faultPosition_10 : decode cX3_faultPosition 10 = .ok (.goto 4, 3) := dk_167 0 4 (dk_at dksX3_faultPosition_0 10 rfl rfl)
theorem dX3_faultPosition_13 : decode cX3_faultPosition 13 = .ok (.iconst 0, 1) := dk_3 (dk_at dksX3_faultPosition_0 13 rfl rfl)
theorem dX3_faultPosition_14 : decode cX3_faultPosition 14 = .ok (.invokevirtual 94, 3) := dk_182 0 94 (dk_at dksX3_faultPosition_0 14 rfl rfl)
theorem dX3_faultPosition_17 : decode cX3_faultPosition 17 = .ok (.ifCond .eq 7, 3) := dk_153 0 7 (dk_at dksX3_faultPosition_0 17 rfl rfl)
theorem dX3_faultPosition_20 : decode cX3_faultPosition 20 = .ok (.iconst 0, 1) := dk_3 (dk_at dksX3_faultPosition_0 20 rfl rfl)
theorem dX3_faultPosition_21 : decode cX3_faultPosition 21 = .ok (.goto 7, 3) := dk_167 0 7 (dk_at dksX3_faultPosition_0 21 rfl rfl)
theorem dX3_faultPosition_24 : decode cX3_faultPosition 24 = .ok (.aload_n 0, 1) := dk_42 (dk_at dksX3_faultPosition_1 0 rfl rfl)
theorem dX3_faultPosition_25 : decode cX3_faultPosition 25 = .ok (.getfield 37, 3) := dk_180 0 37 (dk_at dksX3_faultPosition_1 1 rfl rfl)
theorem dX3_faultPosition_28 : decode cX3_faultPosition 28 = .ok (.ireturn, 1) := dk_172 (dk_at dksX3_faultPosition_1 4 rfl rfl)
abbrev cX3_refusal : ByteArray := prog_14_method_100_code
def yX3_refusal : MethodName := ⟨RX3, "refusal", "(IZ)I"⟩
def dkwX3_refusal_4 : List UInt8 := [153, 0, 10, 42, 180, 0, 50, 167, 0, 7, 42, 180, 1, 88, 172]
abbrev dktX3_refusal_4 : List UInt8 := dkwX3_refusal_4 ++ []
def dkwX3_refusal_3 : List UInt8 := [154, 0, 21, 28, 153, 0, 10, 42, 180, 0, 44, 167, 0, 25, 42, 180, 0, 47, 167, 0, 18, 28]
abbrev dktX3_refusal_3 : List UInt8 := dkwX3_refusal_3 ++ dktX3_refusal_4
def dkwX3_refusal_2 : List UInt8 := [153, 0, 10, 42, 180, 0, 50, 154, 0, 7, 4, 167, 0, 4, 3, 182, 0, 94, 153, 0, 5, 3, 172, 27]
abbrev dktX3_refusal_2 : List UInt8 := dkwX3_refusal_2 ++ dktX3_refusal_3
def dkwX3_refusal_1 : List UInt8 := [27, 154, 0, 18, 42, 180, 0, 44, 154, 0, 7, 4, 167, 0, 26, 3, 167, 0, 22, 42, 180, 0, 44]
abbrev dktX3_refusal_1 : List UInt8 := dkwX3_refusal_1 ++ dktX3_refusal_2
def dkwX3_refusal_0 : List UInt8 := [42, 4, 27, 3, 4, 184, 0, 68, 154, 0, 7, 4, 167, 0, 4, 3, 182, 0, 94, 154, 0, 49, 42, 5]
abbrev dktX3_refusal_0 : List UInt8 := dkwX3_refusal_0 ++ dktX3_refusal_1
theorem dksX3_refusal_0 : cX3_refusal.data.toList.drop 0 = dktX3_refusal_0 := by decide +kernel
theorem dksX3_refusal_1 : cX3_refusal.data.toList.drop 24 = dktX3_refusal_1 := dk_seg dksX3_refusal_0 24 rfl rfl
theorem dksX3_refusal_2 : cX3_refusal.data.toList.drop 47 = dktX3_refusal_2 := dk_seg dksX3_refusal_1 23 rfl rfl
theorem dksX3_refusal_3 : cX3_refusal.data.toList.drop 71 = dktX3_refusal_3 := dk_seg dksX3_refusal_2 24 rfl rfl
theorem dksX3_refusal_4 : cX3_refusal.data.toList.drop 93 = dktX3_refusal_4 := dk_seg dksX3_refusal_3 22 rfl rfl
theorem dX3_refusal_0 : decode cX3_refusal 0 = .ok (.aload_n 0, 1) := dk_42 (dk_at dksX3_refusal_0 0 rfl rfl)
theorem dX3_refusal_1 : decode cX3_refusal 1 = .ok (.iconst 1, 1) := dk_4 (dk_at dksX3_refusal_0 1 rfl rfl)
theorem dX3_refusal_2 : decode cX3_refusal 2 = .ok (.iload_n 1, 1) := dk_27 (dk_at dksX3_refusal_0 2 rfl rfl)
theorem dX3_refusal_3 : decode cX3_refusal 3 = .ok (.iconst 0, 1) := dk_3 (dk_at dksX3_refusal_0 3 rfl rfl)
theorem dX3_refusal_4 : decode cX3_refusal 4 = .ok (.iconst 1, 1) := dk_4 (dk_at dksX3_refusal_0 4 rfl rfl)
theorem dX3_refusal_5 : decode cX3_refusal 5 = .ok (.invokestatic 68, 3) := dk_184 0 68 (dk_at dksX3_refusal_0 5 rfl rfl)
theorem dX3_refusal_8 : decode cX3_refusal 8 = .ok (.ifCond .ne 7, 3) := dk_154 0 7 (dk_at dksX3_refusal_0 8 rfl rfl)
theorem dX3_refusal_11 : decode cX3_refusal 11 = .ok (.iconst 1, 1) := dk_4 (dk_at dksX3_refusal_0 11 rfl rfl)
theorem dX3_refusal_12 : decode cX3_refusal 12 = .ok (.goto 4, 3) := dk_167 0 4 (dk_at dksX3_refusal_0 12 rfl rfl)
theorem dX3_refusal_15 : decode cX3_refusal 15 = .ok (.iconst 0, 1) := dk_3 (dk_at dksX3_refusal_0 15 rfl rfl)
theorem dX3_refusal_16 : decode cX3_refusal 16 = .ok (.invokevirtual 94, 3) := dk_182 0 94 (dk_at dksX3_refusal_0 16 rfl rfl)
theorem dX3_refusal_19 : decode cX3_refusal 19 = .ok (.ifCond .ne 49, 3) := dk_154 0 49 (dk_at dksX3_refusal_0 19 rfl rfl)
theorem dX3_refusal_22 : decode cX3_refusal 22 = .ok (.aload_n 0, 1) := dk_42 (dk_at dksX3_refusal_0 22 rfl rfl)
theorem dX3_refusal_23 : decode cX3_refusal 23 = .ok (.iconst 2, 1) := dk_5 (dk_at dksX3_refusal_0 23 rfl rfl)
theorem dX3_refusal_24 : decode cX3_refusal 24 = .ok (.iload_n 1, 1) := dk_27 (dk_at dksX3_refusal_1 0 rfl rfl)
theorem dX3_refusal_25 : decode cX3_refusal 25 = .ok (.ifCond .ne 18, 3) := dk_154 0 18 (dk_at dksX3_refusal_1 1 rfl rfl)
theorem dX3_refusal_28 : decode cX3_refusal 28 = .ok (.aload_n 0, 1) := dk_42 (dk_at dksX3_refusal_1 4 rfl rfl)
theorem dX3_refusal_29 : decode cX3_refusal 29 = .ok (.getfield 44, 3) := dk_180 0 44 (dk_at dksX3_refusal_1 5 rfl rfl)
theorem dX3_refusal_32 : decode cX3_refusal 32 = .ok (.ifCond .ne 7, 3) := dk_154 0 7 (dk_at dksX3_refusal_1 8 rfl rfl)
theorem dX3_refusal_35 : decode cX3_refusal 35 = .ok (.iconst 1, 1) := dk_4 (dk_at dksX3_refusal_1 11 rfl rfl)
theorem dX3_refusal_36 : decode cX3_refusal 36 = .ok (.goto 26, 3) := dk_167 0 26 (dk_at dksX3_refusal_1 12 rfl rfl)
theorem dX3_refusal_39 : decode cX3_refusal 39 = .ok (.iconst 0, 1) := dk_3 (dk_at dksX3_refusal_1 15 rfl rfl)
theorem dX3_refusal_40 : decode cX3_refusal 40 = .ok (.goto 22, 3) := dk_167 0 22 (dk_at dksX3_refusal_1 16 rfl rfl)
theorem dX3_refusal_43 : decode cX3_refusal 43 = .ok (.aload_n 0, 1) := dk_42 (dk_at dksX3_refusal_1 19 rfl rfl)
theorem dX3_refusal_44 : decode cX3_refusal 44 = .ok (.getfield 44, 3) := dk_180 0 44 (dk_at dksX3_refusal_1 20 rfl rfl)
theorem dX3_refusal_47 : decode cX3_refusal 47 = .ok (.ifCond .eq 10, 3) := dk_153 0 10 (dk_at dksX3_refusal_2 0 rfl rfl)
theorem dX3_refusal_50 : decode cX3_refusal 50 = .ok (.aload_n 0, 1) := dk_42 (dk_at dksX3_refusal_2 3 rfl rfl)
theorem dX3_refusal_51 : decode cX3_refusal 51 = .ok (.getfield 50, 3) := dk_180 0 50 (dk_at dksX3_refusal_2 4 rfl rfl)
theorem dX3_refusal_54 : decode cX3_refusal 54 = .ok (.ifCond .ne 7, 3) := dk_154 0 7 (dk_at dksX3_refusal_2 7 rfl rfl)
theorem dX3_refusal_57 : decode cX3_refusal 57 = .ok (.iconst 1, 1) := dk_4 (dk_at dksX3_refusal_2 10 rfl rfl)
theorem dX3_refusal_58 : decode cX3_refusal 58 = .ok (.goto 4, 3) := dk_167 0 4 (dk_at dksX3_refusal_2 11 rfl rfl)
theorem dX3_refusal_61 : decode cX3_refusal 61 = .ok (.iconst 0, 1) := dk_3 (dk_at dksX3_refusal_2 14 rfl rfl)
theorem dX3_refusal_62 : decode cX3_refusal 62 = .ok (.invokevirtual 94, 3) := dk_182 0 94 (dk_at dksX3_refusal_2 15 rfl rfl)
theorem dX3_refusal_65 : decode cX3_refusal 65 = .ok (.ifCond .eq 5, 3) := dk_153 0 5 (dk_at dksX3_refusal_2 18 rfl rfl)
theorem dX3_refusal_68 : decode cX3_refusal 68 = .ok (.iconst 0, 1) := dk_3 (dk_at dksX3_refusal_2 21 rfl rfl)
theorem dX3_refusal_69 : decode cX3_refusal 69 = .ok (.ireturn, 1) := dk_172 (dk_at dksX3_refusal_2 22 rfl rfl)
theorem dX3_refusal_70 : decode cX3_refusal 70 = .ok (.iload_n 1, 1) := dk_27 (dk_at dksX3_refusal_2 23 rfl rfl)
theorem dX3_refusal_71 : decode cX3_refusal 71 = .ok (.ifCond .ne 21, 3) := dk_154 0 21 (dk_at dksX3_refusal_3 0 rfl rfl)
theorem dX3_refusal_74 : decode cX3_refusal 74 = .ok (.iload_n 2, 1) := dk_28 (dk_at dksX3_refusal_3 3 rfl rfl)
theorem dX3_refusal_75 : decode cX3_refusal 75 = .ok (.ifCond .eq 10, 3) := dk_153 0 10 (dk_at dksX3_refusal_3 4 rfl rfl)
theorem dX3_refusal_78 : decode cX3_refusal 78 = .ok (.aload_n 0, 1) := dk_42 (dk_at dksX3_refusal_3 7 rfl rfl)
theorem dX3_refusal_79 : decode cX3_refusal 79 = .ok (.getfield 44, 3) := dk_180 0 44 (dk_at dksX3_refusal_3 8 rfl rfl)
theorem dX3_refusal_82 : decode cX3_refusal 82 = .ok (.goto 25, 3) := dk_167 0 25 (dk_at dksX3_refusal_3 11 rfl rfl)
theorem dX3_refusal_85 : decode cX3_refusal 85 = .ok (.aload_n 0, 1) := dk_42 (dk_at dksX3_refusal_3 14 rfl rfl)
theorem dX3_refusal_86 : decode cX3_refusal 86 = .ok (.getfield 47, 3) := dk_180 0 47 (dk_at dksX3_refusal_3 15 rfl rfl)
theorem dX3_refusal_89 : decode cX3_refusal 89 = .ok (.goto 18, 3) := dk_167 0 18 (dk_at dksX3_refusal_3 18 rfl rfl)
theorem dX3_refusal_92 : decode cX3_refusal 92 = .ok (.iload_n 2, 1) := dk_28 (dk_at dksX3_refusal_3 21 rfl rfl)
theorem dX3_refusal_93 : decode cX3_refusal 93 = .ok (.ifCond .eq 10, 3) := dk_153 0 10 (dk_at dksX3_refusal_4 0 rfl rfl)
theorem dX3_refusal_96 : decode cX3_refusal 96 = .ok (.aload_n 0, 1) := dk_42 (dk_at dksX3_refusal_4 3 rfl rfl)
theorem dX3_refusal_97 : decode cX3_refusal 97 = .ok (.getfield 50, 3) := dk_180 0 50 (dk_at dksX3_refusal_4 4 rfl rfl)
theorem dX3_refusal_100 : decode cX3_refusal 100 = .ok (.goto 7, 3) := dk_167 0 7 (dk_at dksX3_refusal_4 7 rfl rfl)
theorem dX3_refusal_103 : decode cX3_refusal 103 = .ok (.aload_n 0, 1) := dk_42 (dk_at dksX3_refusal_4 10 rfl rfl)
theorem dX3_refusal_104 : decode cX3_refusal 104 = .ok (.getfield 344, 3) := dk_180 1 88 (dk_at dksX3_refusal_4 11 rfl rfl)
theorem dX3_refusal_107 : decode cX3_refusal 107 = .ok (.ireturn, 1) := dk_172 (dk_at dksX3_refusal_4 14 rfl rfl)
abbrev cX3_undo : ByteArray := prog_14_method_101_code
def yX3_undo : MethodName := ⟨RX3, "undo", "()I"⟩
def dkwX3_undo_2 : List UInt8 := [42, 180, 0, 53, 172]
abbrev dktX3_undo_2 : List UInt8 := dkwX3_undo_2 ++ []
def dkwX3_undo_1 : List UInt8 := [180, 0, 53, 4, 100, 181, 0, 53, 42, 180, 0, 24, 42, 180, 0, 53, 50, 42, 180, 0, 9, 184, 0, 56]
abbrev dktX3_undo_1 : List UInt8 := dkwX3_undo_1 ++ dktX3_undo_2
def dkwX3_undo_0 : List UInt8 := [42, 4, 42, 180, 0, 53, 154, 0, 7, 4, 167, 0, 4, 3, 182, 0, 94, 153, 0, 5, 3, 172, 42, 89]
abbrev dktX3_undo_0 : List UInt8 := dkwX3_undo_0 ++ dktX3_undo_1
theorem dksX3_undo_0 : cX3_undo.data.toList.drop 0 = dktX3_undo_0 := by decide +kernel
theorem dksX3_undo_1 : cX3_undo.data.toList.drop 24 = dktX3_undo_1 := dk_seg dksX3_undo_0 24 rfl rfl
theorem dksX3_undo_2 : cX3_undo.data.toList.drop 48 = dktX3_undo_2 := dk_seg dksX3_undo_1 24 rfl rfl
theorem dX3_undo_0 : decode cX3_undo 0 = .ok (.aload_n 0, 1) := dk_42 (dk_at dksX3_undo_0 0 rfl rfl)
theorem dX3_undo_1 : decode cX3_undo 1 = .ok (.iconst 1, 1) := dk_4 (dk_at dksX3_undo_0 1 rfl rfl)
theorem dX3_undo_2 : decode cX3_undo 2 = .ok (.aload_n 0, 1) := dk_42 (dk_at dksX3_undo_0 2 rfl rfl)
theorem dX3_undo_3 : decode cX3_undo 3 = .ok (.getfield 53, 3) := dk_180 0 53 (dk_at dksX3_undo_0 3 rfl rfl)
theorem dX3_undo_6 : decode cX3_undo 6 = .ok (.ifCond .ne 7, 3) := dk_154 0 7 (dk_at dksX3_undo_0 6 rfl rfl)
theorem dX3_undo_9 : decode cX3_undo 9 = .ok (.iconst 1, 1) := dk_4 (dk_at dksX3_undo_0 9 rfl rfl)
theorem dX3_undo_10 : decode cX3_undo 10 = .ok (.goto 4, 3) := dk_167 0 4 (dk_at dksX3_undo_0 10 rfl rfl)
theorem dX3_undo_13 : decode cX3_undo 13 = .ok (.iconst 0, 1) := dk_3 (dk_at dksX3_undo_0 13 rfl rfl)
theorem dX3_undo_14 : decode cX3_undo 14 = .ok (.invokevirtual 94, 3) := dk_182 0 94 (dk_at dksX3_undo_0 14 rfl rfl)
theorem dX3_undo_17 : decode cX3_undo 17 = .ok (.ifCond .eq 5, 3) := dk_153 0 5 (dk_at dksX3_undo_0 17 rfl rfl)
theorem dX3_undo_20 : decode cX3_undo 20 = .ok (.iconst 0, 1) := dk_3 (dk_at dksX3_undo_0 20 rfl rfl)
theorem dX3_undo_21 : decode cX3_undo 21 = .ok (.ireturn, 1) := dk_172 (dk_at dksX3_undo_0 21 rfl rfl)
theorem dX3_undo_22 : decode cX3_undo 22 = .ok (.aload_n 0, 1) := dk_42 (dk_at dksX3_undo_0 22 rfl rfl)
theorem dX3_undo_23 : decode cX3_undo 23 = .ok (.dup, 1) := dk_89 (dk_at dksX3_undo_0 23 rfl rfl)
theorem dX3_undo_24 : decode cX3_undo 24 = .ok (.getfield 53, 3) := dk_180 0 53 (dk_at dksX3_undo_1 0 rfl rfl)
theorem dX3_undo_27 : decode cX3_undo 27 = .ok (.iconst 1, 1) := dk_4 (dk_at dksX3_undo_1 3 rfl rfl)
theorem dX3_undo_28 : decode cX3_undo 28 = .ok (.isub, 1) := dk_100 (dk_at dksX3_undo_1 4 rfl rfl)
theorem dX3_undo_29 : decode cX3_undo 29 = .ok (.putfield 53, 3) := dk_181 0 53 (dk_at dksX3_undo_1 5 rfl rfl)
theorem dX3_undo_32 : decode cX3_undo 32 = .ok (.aload_n 0, 1) := dk_42 (dk_at dksX3_undo_1 8 rfl rfl)
theorem dX3_undo_33 : decode cX3_undo 33 = .ok (.getfield 24, 3) := dk_180 0 24 (dk_at dksX3_undo_1 9 rfl rfl)
theorem dX3_undo_36 : decode cX3_undo 36 = .ok (.aload_n 0, 1) := dk_42 (dk_at dksX3_undo_1 12 rfl rfl)
theorem dX3_undo_37 : decode cX3_undo 37 = .ok (.getfield 53, 3) := dk_180 0 53 (dk_at dksX3_undo_1 13 rfl rfl)
theorem dX3_undo_40 : decode cX3_undo 40 = .ok (.aaload, 1) := dk_50 (dk_at dksX3_undo_1 16 rfl rfl)
theorem dX3_undo_41 : decode cX3_undo 41 = .ok (.aload_n 0, 1) := dk_42 (dk_at dksX3_undo_1 17 rfl rfl)
theorem dX3_undo_42 : decode cX3_undo 42 = .ok (.getfield 9, 3) := dk_180 0 9 (dk_at dksX3_undo_1 18 rfl rfl)
theorem dX3_undo_45 : decode cX3_undo 45 = .ok (.invokestatic 56, 3) := dk_184 0 56 (dk_at dksX3_undo_1 21 rfl rfl)
theorem dX3_undo_48 : decode cX3_undo 48 = .ok (.aload_n 0, 1) := dk_42 (dk_at dksX3_undo_2 0 rfl rfl)
theorem dX3_undo_49 : decode cX3_undo 49 = .ok (.getfield 53, 3) := dk_180 0 53 (dk_at dksX3_undo_2 1 rfl rfl)
theorem dX3_undo_52 : decode cX3_undo 52 = .ok (.ireturn, 1) := dk_172 (dk_at dksX3_undo_2 4 rfl rfl)
abbrev cX3_saveSnapshot : ByteArray := prog_14_method_102_code
def yX3_saveSnapshot : MethodName := ⟨RX3, "saveSnapshot", "()I"⟩
def dkwX3_saveSnapshot_1 : List UInt8 := [180, 0, 9, 16, 10, 46, 172]
abbrev dktX3_saveSnapshot_1 : List UInt8 := dkwX3_saveSnapshot_1 ++ []
def dkwX3_saveSnapshot_0 : List UInt8 := [42, 3, 181, 0, 41, 42, 4, 181, 1, 101, 42, 180, 0, 9, 42, 180, 0, 13, 184, 0, 56, 42]
abbrev dktX3_saveSnapshot_0 : List UInt8 := dkwX3_saveSnapshot_0 ++ dktX3_saveSnapshot_1
theorem dksX3_saveSnapshot_0 : cX3_saveSnapshot.data.toList.drop 0 = dktX3_saveSnapshot_0 := by decide +kernel
theorem dksX3_saveSnapshot_1 : cX3_saveSnapshot.data.toList.drop 22 = dktX3_saveSnapshot_1 := dk_seg dksX3_saveSnapshot_0 22 rfl rfl
theorem dX3_saveSnapshot_0 : decode cX3_saveSnapshot 0 = .ok (.aload_n 0, 1) := dk_42 (dk_at dksX3_saveSnapshot_0 0 rfl rfl)
theorem dX3_saveSnapshot_1 : decode cX3_saveSnapshot 1 = .ok (.iconst 0, 1) := dk_3 (dk_at dksX3_saveSnapshot_0 1 rfl rfl)
theorem dX3_saveSnapshot_2 : decode cX3_saveSnapshot 2 = .ok (.putfield 41, 3) := dk_181 0 41 (dk_at dksX3_saveSnapshot_0 2 rfl rfl)
theorem dX3_saveSnapshot_5 : decode cX3_saveSnapshot 5 = .ok (.aload_n 0, 1) := dk_42 (dk_at dksX3_saveSnapshot_0 5 rfl rfl)
theorem dX3_saveSnapshot_6 : decode cX3_saveSnapshot 6 = .ok (.iconst 1, 1) := dk_4 (dk_at dksX3_saveSnapshot_0 6 rfl rfl)
theorem dX3_saveSnapshot_7 : decode cX3_saveSnapshot 7 = .ok (.putfield 357, 3) := dk_181 1 101 (dk_at dksX3_saveSnapshot_0 7 rfl rfl)
theorem dX3_saveSnapshot_10 : decode cX3_saveSnapshot 10 = .ok (.aload_n 0, 1) := dk_42 (dk_at dksX3_saveSnapshot_0 10 rfl rfl)
theorem dX3_saveSnapshot_11 : decode cX3_saveSnapshot 11 = .ok (.getfield 9, 3) := dk_180 0 9 (dk_at dksX3_saveSnapshot_0 11 rfl rfl)
theorem dX3_saveSnapshot_14 : decode cX3_saveSnapshot 14 = .ok (.aload_n 0, 1) := dk_42 (dk_at dksX3_saveSnapshot_0 14 rfl rfl)
theorem dX3_saveSnapshot_15 : decode cX3_saveSnapshot 15 = .ok (.getfield 13, 3) := dk_180 0 13 (dk_at dksX3_saveSnapshot_0 15 rfl rfl)
theorem dX3_saveSnapshot_18 : decode cX3_saveSnapshot 18 = .ok (.invokestatic 56, 3) := dk_184 0 56 (dk_at dksX3_saveSnapshot_0 18 rfl rfl)
theorem dX3_saveSnapshot_21 : decode cX3_saveSnapshot 21 = .ok (.aload_n 0, 1) := dk_42 (dk_at dksX3_saveSnapshot_0 21 rfl rfl)
theorem dX3_saveSnapshot_22 : decode cX3_saveSnapshot 22 = .ok (.getfield 9, 3) := dk_180 0 9 (dk_at dksX3_saveSnapshot_1 0 rfl rfl)
theorem dX3_saveSnapshot_25 : decode cX3_saveSnapshot 25 = .ok (.bipush 10, 2) := dk_16 10 (dk_at dksX3_saveSnapshot_1 3 rfl rfl)
theorem dX3_saveSnapshot_27 : decode cX3_saveSnapshot 27 = .ok (.iaload, 1) := dk_46 (dk_at dksX3_saveSnapshot_1 5 rfl rfl)
theorem dX3_saveSnapshot_28 : decode cX3_saveSnapshot 28 = .ok (.ireturn, 1) := dk_172 (dk_at dksX3_saveSnapshot_1 6 rfl rfl)
abbrev cX3_restoreSnapshot : ByteArray := prog_14_method_103_code
def yX3_restoreSnapshot : MethodName := ⟨RX3, "restoreSnapshot", "()I"⟩
def dkwX3_restoreSnapshot_1 : List UInt8 := [180, 0, 13, 42, 180, 0, 9, 184, 0, 56, 42, 3, 181, 0, 53, 42, 180, 0, 9, 16, 10, 46, 172]
abbrev dktX3_restoreSnapshot_1 : List UInt8 := dkwX3_restoreSnapshot_1 ++ []
def dkwX3_restoreSnapshot_0 : List UInt8 := [42, 4, 42, 180, 1, 101, 154, 0, 7, 4, 167, 0, 4, 3, 182, 0, 94, 153, 0, 5, 3, 172, 42]
abbrev dktX3_restoreSnapshot_0 : List UInt8 := dkwX3_restoreSnapshot_0 ++ dktX3_restoreSnapshot_1
theorem dksX3_restoreSnapshot_0 : cX3_restoreSnapshot.data.toList.drop 0 = dktX3_restoreSnapshot_0 := by decide +kernel
theorem dksX3_restoreSnapshot_1 : cX3_restoreSnapshot.data.toList.drop 23 = dktX3_restoreSnapshot_1 := dk_seg dksX3_restoreSnapshot_0 23 rfl rfl
theorem dX3_restoreSnapshot_0 : decode cX3_restoreSnapshot 0 = .ok (.aload_n 0, 1) := dk_42 (dk_at dksX3_restoreSnapshot_0 0 rfl rfl)
theorem dX3_restoreSnapshot_1 : decode cX3_restoreSnapshot 1 = .ok (.iconst 1, 1) := dk_4 (dk_at dksX3_restoreSnapshot_0 1 rfl rfl)
theorem dX3_restoreSnapshot_2 : decode cX3_restoreSnapshot 2 = .ok (.aload_n 0, 1) := dk_42 (dk_at dksX3_restoreSnapshot_0 2 rfl rfl)
theorem dX3_restoreSnapshot_3 : decode cX3_restoreSnapshot 3 = .ok (.getfield 357, 3) := dk_180 1 101 (dk_at dksX3_restoreSnapshot_0 3 rfl rfl)
theorem dX3_restoreSnapshot_6 : decode cX3_restoreSnapshot 6 = .ok (.ifCond .ne 7, 3) := dk_154 0 7 (dk_at dksX3_restoreSnapshot_0 6 rfl rfl)
theorem dX3_restoreSnapshot_9 : decode cX3_restoreSnapshot 9 = .ok (.iconst 1, 1) := dk_4 (dk_at dksX3_restoreSnapshot_0 9 rfl rfl)
theorem dX3_restoreSnapshot_10 : decode cX3_restoreSnapshot 10 = .ok (.goto 4, 3) := dk_167 0 4 (dk_at dksX3_restoreSnapshot_0 10 rfl rfl)
theorem dX3_restoreSnapshot_13 : decode cX3_restoreSnapshot 13 = .ok (.iconst 0, 1) := dk_3 (dk_at dksX3_restoreSnapshot_0 13 rfl rfl)
theorem dX3_restoreSnapshot_14 : decode cX3_restoreSnapshot 14 = .ok (.invokevirtual 94, 3) := dk_182 0 94 (dk_at dksX3_restoreSnapshot_0 14 rfl rfl)
theorem dX3_restoreSnapshot_17 : decode cX3_restoreSnapshot 17 = .ok (.ifCond .eq 5, 3) := dk_153 0 5 (dk_at dksX3_restoreSnapshot_0 17 rfl rfl)
theorem dX3_restoreSnapshot_20 : decode cX3_restoreSnapshot 20 = .ok (.iconst 0, 1) := dk_3 (dk_at dksX3_restoreSnapshot_0 20 rfl rfl)
theorem dX3_restoreSnapshot_21 : decode cX3_restoreSnapshot 21 = .ok (.ireturn, 1) := dk_172 (dk_at dksX3_restoreSnapshot_0 21 rfl rfl)
theorem dX3_restoreSnapshot_22 : decode cX3_restoreSnapshot 22 = .ok (.aload_n 0, 1) := dk_42 (dk_at dksX3_restoreSnapshot_0 22 rfl rfl)
theorem dX3_restoreSnapshot_23 : decode cX3_restoreSnapshot 23 = .ok (.getfield 13, 3) := dk_180 0 13 (dk_at dksX3_restoreSnapshot_1 0 rfl rfl)
theorem dX3_restoreSnapshot_26 : decode cX3_restoreSnapshot 26 = .ok (.aload_n 0, 1) := dk_42 (dk_at dksX3_restoreSnapshot_1 3 rfl rfl)
theorem dX3_restoreSnapshot_27 : decode cX3_restoreSnapshot 27 = .ok (.getfield 9, 3) := dk_180 0 9 (dk_at dksX3_restoreSnapshot_1 4 rfl rfl)
theorem dX3_restoreSnapshot_30 : decode cX3_restoreSnapshot 30 = .ok (.invokestatic 56, 3) := dk_184 0 56 (dk_at dksX3_restoreSnapshot_1 7 rfl rfl)
theorem dX3_restoreSnapshot_33 : decode cX3_restoreSnapshot 33 = .ok (.aload_n 0, 1) := dk_42 (dk_at dksX3_restoreSnapshot_1 10 rfl rfl)
theorem dX3_restoreSnapshot_34 : decode cX3_restoreSnapshot 34 = .ok (.iconst 0, 1) := dk_3 (dk_at dksX3_restoreSnapshot_1 11 rfl rfl)
theorem dX3_restoreSnapshot_35 : decode cX3_restoreSnapshot 35 = .ok (.putfield 53, 3) := dk_181 0 53 (dk_at dksX3_restoreSnapshot_1 12 rfl rfl)
theorem dX3_restoreSnapshot_38 : decode cX3_restoreSnapshot 38 = .ok (.aload_n 0, 1) := dk_42 (dk_at dksX3_restoreSnapshot_1 15 rfl rfl)
theorem dX3_restoreSnapshot_39 : decode cX3_restoreSnapshot 39 = .ok (.getfield 9, 3) := dk_180 0 9 (dk_at dksX3_restoreSnapshot_1 16 rfl rfl)
theorem dX3_restoreSnapshot_42 : decode cX3_restoreSnapshot 42 = .ok (.bipush 10, 2) := dk_16 10 (dk_at dksX3_restoreSnapshot_1 19 rfl rfl)
theorem dX3_restoreSnapshot_44 : decode cX3_restoreSnapshot 44 = .ok (.iaload, 1) := dk_46 (dk_at dksX3_restoreSnapshot_1 21 rfl rfl)
theorem dX3_restoreSnapshot_45 : decode cX3_restoreSnapshot 45 = .ok (.ireturn, 1) := dk_172 (dk_at dksX3_restoreSnapshot_1 22 rfl rfl)
theorem q91 : (Jvm.Cond.initialized "PeacockLawnsModel") ∈ lw_all := lw_g (lw_at lw_m1 12 rfl) rfl
theorem q761 : (Jvm.Cond.selects "PeacockLawnsModel" ({ cls := "java/lang/Object", name := "getClass", desc := "()Ljava/lang/Class;" } : Jvm.MethodName) ({ cls := "java/lang/Object", name := "getClass", desc := "()Ljava/lang/Class;" } : Jvm.MethodName)) ∈ lw_all := lw_g (lw_at lw_m3 202 rfl) rfl
theorem q2066 : (Jvm.Cond.instantiable "PeacockLawnsModel" (27 : Nat)) ∈ lw_all := lw_g (lw_at lw_m9 67 rfl) rfl
theorem q2068 : (Jvm.Cond.instanceMethod ({ cls := "PeacockLawnsModel", name := "<init>", desc := "()V" } : Jvm.MethodName)) ∈ lw_all := lw_g (lw_at lw_m9 69 rfl) rfl
theorem q2069 : (Jvm.Cond.code ({ cls := "PeacockLawnsModel", name := "<init>", desc := "()V" } : Jvm.MethodName) prog_14_method_1_code (2 : Nat) (Option.none : Option Jvm.ClassFile.FieldType)) ∈ lw_all := lw_g (lw_at lw_m9 70 rfl) rfl
theorem q2070 : (Jvm.Cond.methodLink "PeacockLawnsModel" (3 : Nat) ({ cls := "java/lang/Object", name := "<init>", desc := "()V" } : Jvm.MethodName)) ∈ lw_all := lw_g (lw_at lw_m9 71 rfl) rfl
theorem q2071 : (Jvm.Cond.classLink "PeacockLawnsModel" (22 : Nat) "[[I") ∈ lw_all := lw_g (lw_at lw_m9 72 rfl) rfl
theorem q2073 : (Jvm.Cond.fieldLink "PeacockLawnsModel" (41 : Nat) "PeacockLawnsModel" "thrown" "I") ∈ lw_all := lw_g (lw_at lw_m9 74 rfl) rfl
theorem q2074 : (Jvm.Cond.fieldLink "PeacockLawnsModel" (9 : Nat) "PeacockLawnsModel" "now" "[I") ∈ lw_all := lw_g (lw_at lw_m9 75 rfl) rfl
theorem q2075 : (Jvm.Cond.fieldLink "PeacockLawnsModel" (13 : Nat) "PeacockLawnsModel" "saved" "[I") ∈ lw_all := lw_g (lw_at lw_m9 76 rfl) rfl
theorem q2076 : (Jvm.Cond.fieldLink "PeacockLawnsModel" (16 : Nat) "PeacockLawnsModel" "ahead" "[I") ∈ lw_all := lw_g (lw_at lw_m9 77 rfl) rfl
theorem q2077 : (Jvm.Cond.fieldLink "PeacockLawnsModel" (19 : Nat) "PeacockLawnsModel" "before" "[I") ∈ lw_all := lw_g (lw_at lw_m9 78 rfl) rfl
theorem q2078 : (Jvm.Cond.fieldLink "PeacockLawnsModel" (24 : Nat) "PeacockLawnsModel" "history" "[[I") ∈ lw_all := lw_g (lw_at lw_m9 79 rfl) rfl
theorem q2079 : (Jvm.Cond.fieldLink "PeacockLawnsModel" (53 : Nat) "PeacockLawnsModel" "kept" "I") ∈ lw_all := lw_g (lw_at lw_m9 80 rfl) rfl
theorem q2080 : (Jvm.Cond.fieldLink "PeacockLawnsModel" (44 : Nat) "PeacockLawnsModel" "reason" "I") ∈ lw_all := lw_g (lw_at lw_m9 81 rfl) rfl
theorem q2081 : (Jvm.Cond.fieldLink "PeacockLawnsModel" (47 : Nat) "PeacockLawnsModel" "detail" "I") ∈ lw_all := lw_g (lw_at lw_m9 82 rfl) rfl
theorem q2082 : (Jvm.Cond.fieldLink "PeacockLawnsModel" (50 : Nat) "PeacockLawnsModel" "cause" "I") ∈ lw_all := lw_g (lw_at lw_m9 83 rfl) rfl
theorem q2083 : (Jvm.Cond.fieldLink "PeacockLawnsModel" (344 : Nat) "PeacockLawnsModel" "causeDetail" "I") ∈ lw_all := lw_g (lw_at lw_m9 84 rfl) rfl
theorem q2084 : (Jvm.Cond.fieldLink "PeacockLawnsModel" (357 : Nat) "PeacockLawnsModel" "isSaved" "Z") ∈ lw_all := lw_g (lw_at lw_m9 85 rfl) rfl
theorem q2085 : (Jvm.Cond.fieldLink "PeacockLawnsModel" (60 : Nat) "PeacockLawnsModel" "isInText" "Z") ∈ lw_all := lw_g (lw_at lw_m9 86 rfl) rfl
theorem q2086 : (Jvm.Cond.fieldLink "PeacockLawnsModel" (27 : Nat) "PeacockLawnsModel" "order" "[I") ∈ lw_all := lw_g (lw_at lw_m9 87 rfl) rfl
theorem q2087 : (Jvm.Cond.fieldLink "PeacockLawnsModel" (143 : Nat) "PeacockLawnsModel" "ordered" "I") ∈ lw_all := lw_g (lw_at lw_m9 88 rfl) rfl
theorem q2088 : (Jvm.Cond.fieldLink "PeacockLawnsModel" (192 : Nat) "PeacockLawnsModel" "hatching" "I") ∈ lw_all := lw_g (lw_at lw_m9 89 rfl) rfl
theorem q2089 : (Jvm.Cond.fieldLink "PeacockLawnsModel" (30 : Nat) "PeacockLawnsModel" "line" "[C") ∈ lw_all := lw_g (lw_at lw_m9 90 rfl) rfl
theorem q2090 : (Jvm.Cond.fieldLink "PeacockLawnsModel" (224 : Nat) "PeacockLawnsModel" "written" "I") ∈ lw_all := lw_g (lw_at lw_m9 91 rfl) rfl
theorem q2091 : (Jvm.Cond.fieldLink "PeacockLawnsModel" (34 : Nat) "PeacockLawnsModel" "input" "[C") ∈ lw_all := lw_g (lw_at lw_m9 92 rfl) rfl
theorem q2092 : (Jvm.Cond.fieldLink "PeacockLawnsModel" (255 : Nat) "PeacockLawnsModel" "length" "I") ∈ lw_all := lw_g (lw_at lw_m9 93 rfl) rfl
theorem q2093 : (Jvm.Cond.fieldLink "PeacockLawnsModel" (274 : Nat) "PeacockLawnsModel" "at" "I") ∈ lw_all := lw_g (lw_at lw_m9 94 rfl) rfl
theorem q2094 : (Jvm.Cond.fieldLink "PeacockLawnsModel" (37 : Nat) "PeacockLawnsModel" "fault" "I") ∈ lw_all := lw_g (lw_at lw_m9 95 rfl) rfl
theorem q2095 : (Jvm.Cond.fieldLink "PeacockLawnsModel" (271 : Nat) "PeacockLawnsModel" "isWrong" "Z") ∈ lw_all := lw_g (lw_at lw_m9 96 rfl) rfl
theorem q2096 : (Jvm.Cond.fieldLink "PeacockLawnsModel" (306 : Nat) "PeacockLawnsModel" "command" "C") ∈ lw_all := lw_g (lw_at lw_m9 97 rfl) rfl
theorem q2097 : (Jvm.Cond.fieldLink "PeacockLawnsModel" (317 : Nat) "PeacockLawnsModel" "toldOne" "I") ∈ lw_all := lw_g (lw_at lw_m9 98 rfl) rfl
theorem q2098 : (Jvm.Cond.fieldLink "PeacockLawnsModel" (320 : Nat) "PeacockLawnsModel" "toldTwo" "I") ∈ lw_all := lw_g (lw_at lw_m9 99 rfl) rfl
theorem q2099 : (Jvm.Cond.fieldLink "PeacockLawnsModel" (323 : Nat) "PeacockLawnsModel" "toldThree" "I") ∈ lw_all := lw_g (lw_at lw_m9 100 rfl) rfl
theorem q2100 : (Jvm.Cond.lays "PeacockLawnsModel" "PeacockLawnsModel" "thrown" "I") ∈ lw_all := lw_g (lw_at lw_m9 101 rfl) rfl
theorem q2101 : (Jvm.Cond.soleField "PeacockLawnsModel" "thrown") ∈ lw_all := lw_g (lw_at lw_m9 102 rfl) rfl
theorem q2102 : (Jvm.Cond.laysFinal "PeacockLawnsModel" "PeacockLawnsModel" "now" "[I") ∈ lw_all := lw_g (lw_at lw_m9 103 rfl) rfl
theorem q2103 : (Jvm.Cond.soleField "PeacockLawnsModel" "now") ∈ lw_all := lw_g (lw_at lw_m9 104 rfl) rfl
theorem q2104 : (Jvm.Cond.laysFinal "PeacockLawnsModel" "PeacockLawnsModel" "saved" "[I") ∈ lw_all := lw_g (lw_at lw_m9 105 rfl) rfl
theorem q2105 : (Jvm.Cond.soleField "PeacockLawnsModel" "saved") ∈ lw_all := lw_g (lw_at lw_m9 106 rfl) rfl
theorem q2106 : (Jvm.Cond.laysFinal "PeacockLawnsModel" "PeacockLawnsModel" "ahead" "[I") ∈ lw_all := lw_g (lw_at lw_m9 107 rfl) rfl
theorem q2107 : (Jvm.Cond.soleField "PeacockLawnsModel" "ahead") ∈ lw_all := lw_g (lw_at lw_m9 108 rfl) rfl
theorem q2108 : (Jvm.Cond.laysFinal "PeacockLawnsModel" "PeacockLawnsModel" "before" "[I") ∈ lw_all := lw_g (lw_at lw_m9 109 rfl) rfl
theorem q2109 : (Jvm.Cond.soleField "PeacockLawnsModel" "before") ∈ lw_all := lw_g (lw_at lw_m9 110 rfl) rfl
theorem q2110 : (Jvm.Cond.laysFinal "PeacockLawnsModel" "PeacockLawnsModel" "history" "[[I") ∈ lw_all := lw_g (lw_at lw_m9 111 rfl) rfl
theorem q2111 : (Jvm.Cond.soleField "PeacockLawnsModel" "history") ∈ lw_all := lw_g (lw_at lw_m9 112 rfl) rfl
theorem q2112 : (Jvm.Cond.lays "PeacockLawnsModel" "PeacockLawnsModel" "kept" "I") ∈ lw_all := lw_g (lw_at lw_m9 113 rfl) rfl
theorem q2113 : (Jvm.Cond.soleField "PeacockLawnsModel" "kept") ∈ lw_all := lw_g (lw_at lw_m9 114 rfl) rfl
theorem q2114 : (Jvm.Cond.lays "PeacockLawnsModel" "PeacockLawnsModel" "reason" "I") ∈ lw_all := lw_g (lw_at lw_m9 115 rfl) rfl
theorem q2115 : (Jvm.Cond.soleField "PeacockLawnsModel" "reason") ∈ lw_all := lw_g (lw_at lw_m9 116 rfl) rfl
theorem q2116 : (Jvm.Cond.lays "PeacockLawnsModel" "PeacockLawnsModel" "detail" "I") ∈ lw_all := lw_g (lw_at lw_m9 117 rfl) rfl
theorem q2117 : (Jvm.Cond.soleField "PeacockLawnsModel" "detail") ∈ lw_all := lw_g (lw_at lw_m9 118 rfl) rfl
theorem q2118 : (Jvm.Cond.lays "PeacockLawnsModel" "PeacockLawnsModel" "cause" "I") ∈ lw_all := lw_g (lw_at lw_m9 119 rfl) rfl
theorem q2119 : (Jvm.Cond.soleField "PeacockLawnsModel" "cause") ∈ lw_all := lw_g (lw_at lw_m9 120 rfl) rfl
theorem q2120 : (Jvm.Cond.lays "PeacockLawnsModel" "PeacockLawnsModel" "causeDetail" "I") ∈ lw_all := lw_g (lw_at lw_m9 121 rfl) rfl
theorem q2121 : (Jvm.Cond.soleField "PeacockLawnsModel" "causeDetail") ∈ lw_all := lw_g (lw_at lw_m9 122 rfl) rfl
theorem q2122 : (Jvm.Cond.lays "PeacockLawnsModel" "PeacockLawnsModel" "isSaved" "Z") ∈ lw_all := lw_g (lw_at lw_m9 123 rfl) rfl
theorem q2123 : (Jvm.Cond.soleField "PeacockLawnsModel" "isSaved") ∈ lw_all := lw_g (lw_at lw_m9 124 rfl) rfl
theorem q2124 : (Jvm.Cond.lays "PeacockLawnsModel" "PeacockLawnsModel" "isInText" "Z") ∈ lw_all := lw_g (lw_at lw_m9 125 rfl) rfl
theorem q2125 : (Jvm.Cond.soleField "PeacockLawnsModel" "isInText") ∈ lw_all := lw_g (lw_at lw_m9 126 rfl) rfl
theorem q2126 : (Jvm.Cond.laysFinal "PeacockLawnsModel" "PeacockLawnsModel" "order" "[I") ∈ lw_all := lw_g (lw_at lw_m9 127 rfl) rfl
theorem q2127 : (Jvm.Cond.soleField "PeacockLawnsModel" "order") ∈ lw_all := lw_g (lw_at lw_m9 128 rfl) rfl
theorem q2128 : (Jvm.Cond.lays "PeacockLawnsModel" "PeacockLawnsModel" "ordered" "I") ∈ lw_all := lw_g (lw_at lw_m9 129 rfl) rfl
theorem q2129 : (Jvm.Cond.soleField "PeacockLawnsModel" "ordered") ∈ lw_all := lw_g (lw_at lw_m9 130 rfl) rfl
theorem q2130 : (Jvm.Cond.lays "PeacockLawnsModel" "PeacockLawnsModel" "hatching" "I") ∈ lw_all := lw_g (lw_at lw_m9 131 rfl) rfl
theorem q2131 : (Jvm.Cond.soleField "PeacockLawnsModel" "hatching") ∈ lw_all := lw_g (lw_at lw_m9 132 rfl) rfl
theorem q2132 : (Jvm.Cond.laysFinal "PeacockLawnsModel" "PeacockLawnsModel" "line" "[C") ∈ lw_all := lw_g (lw_at lw_m9 133 rfl) rfl
theorem q2133 : (Jvm.Cond.soleField "PeacockLawnsModel" "line") ∈ lw_all := lw_g (lw_at lw_m9 134 rfl) rfl
theorem q2134 : (Jvm.Cond.lays "PeacockLawnsModel" "PeacockLawnsModel" "written" "I") ∈ lw_all := lw_g (lw_at lw_m9 135 rfl) rfl
theorem q2135 : (Jvm.Cond.soleField "PeacockLawnsModel" "written") ∈ lw_all := lw_g (lw_at lw_m9 136 rfl) rfl
theorem q2136 : (Jvm.Cond.laysFinal "PeacockLawnsModel" "PeacockLawnsModel" "input" "[C") ∈ lw_all := lw_g (lw_at lw_m9 137 rfl) rfl
theorem q2137 : (Jvm.Cond.soleField "PeacockLawnsModel" "input") ∈ lw_all := lw_g (lw_at lw_m9 138 rfl) rfl
theorem q2138 : (Jvm.Cond.lays "PeacockLawnsModel" "PeacockLawnsModel" "length" "I") ∈ lw_all := lw_g (lw_at lw_m9 139 rfl) rfl
theorem q2139 : (Jvm.Cond.soleField "PeacockLawnsModel" "length") ∈ lw_all := lw_g (lw_at lw_m9 140 rfl) rfl
theorem q2140 : (Jvm.Cond.lays "PeacockLawnsModel" "PeacockLawnsModel" "at" "I") ∈ lw_all := lw_g (lw_at lw_m9 141 rfl) rfl
theorem q2141 : (Jvm.Cond.soleField "PeacockLawnsModel" "at") ∈ lw_all := lw_g (lw_at lw_m9 142 rfl) rfl
theorem q2142 : (Jvm.Cond.lays "PeacockLawnsModel" "PeacockLawnsModel" "fault" "I") ∈ lw_all := lw_g (lw_at lw_m9 143 rfl) rfl
theorem q2143 : (Jvm.Cond.soleField "PeacockLawnsModel" "fault") ∈ lw_all := lw_g (lw_at lw_m9 144 rfl) rfl
theorem q2144 : (Jvm.Cond.lays "PeacockLawnsModel" "PeacockLawnsModel" "isWrong" "Z") ∈ lw_all := lw_g (lw_at lw_m9 145 rfl) rfl
theorem q2145 : (Jvm.Cond.soleField "PeacockLawnsModel" "isWrong") ∈ lw_all := lw_g (lw_at lw_m9 146 rfl) rfl
theorem q2146 : (Jvm.Cond.lays "PeacockLawnsModel" "PeacockLawnsModel" "command" "C") ∈ lw_all := lw_g (lw_at lw_m9 147 rfl) rfl
theorem q2147 : (Jvm.Cond.soleField "PeacockLawnsModel" "command") ∈ lw_all := lw_g (lw_at lw_m9 148 rfl) rfl
theorem q2148 : (Jvm.Cond.lays "PeacockLawnsModel" "PeacockLawnsModel" "toldOne" "I") ∈ lw_all := lw_g (lw_at lw_m9 149 rfl) rfl
theorem q2149 : (Jvm.Cond.soleField "PeacockLawnsModel" "toldOne") ∈ lw_all := lw_g (lw_at lw_m9 150 rfl) rfl
theorem q2150 : (Jvm.Cond.lays "PeacockLawnsModel" "PeacockLawnsModel" "toldTwo" "I") ∈ lw_all := lw_g (lw_at lw_m9 151 rfl) rfl
theorem q2151 : (Jvm.Cond.soleField "PeacockLawnsModel" "toldTwo") ∈ lw_all := lw_g (lw_at lw_m9 152 rfl) rfl
theorem q2152 : (Jvm.Cond.lays "PeacockLawnsModel" "PeacockLawnsModel" "toldThree" "I") ∈ lw_all := lw_g (lw_at lw_m9 153 rfl) rfl
theorem q2153 : (Jvm.Cond.soleField "PeacockLawnsModel" "toldThree") ∈ lw_all := lw_g (lw_at lw_m9 154 rfl) rfl
theorem q2154 : (Jvm.Cond.superclass "PeacockLawnsModel" "java/lang/Object") ∈ lw_all := lw_g (lw_at lw_m9 155 rfl) rfl
theorem q2157 : (Jvm.Cond.instanceMethod ({ cls := "PeacockLawnsModel", name := "thrown", desc := "()I" } : Jvm.MethodName)) ∈ lw_all := lw_g (lw_at lw_m9 158 rfl) rfl
theorem q2158 : (Jvm.Cond.selects "PeacockLawnsModel" ({ cls := "PeacockLawnsModel", name := "thrown", desc := "()I" } : Jvm.MethodName) ({ cls := "PeacockLawnsModel", name := "thrown", desc := "()I" } : Jvm.MethodName)) ∈ lw_all := lw_g (lw_at lw_m9 159 rfl) rfl
theorem q2159 : (Jvm.Cond.code ({ cls := "PeacockLawnsModel", name := "thrown", desc := "()I" } : Jvm.MethodName) prog_14_method_2_code (1 : Nat) (Option.some Jvm.ClassFile.FieldType.int)) ∈ lw_all := lw_g (lw_at lw_m9 160 rfl) rfl
theorem q2161 : (Jvm.Cond.instanceMethod ({ cls := "PeacockLawnsModel", name := "height", desc := "(I)I" } : Jvm.MethodName)) ∈ lw_all := lw_g (lw_at lw_m9 162 rfl) rfl
theorem q2162 : (Jvm.Cond.selects "PeacockLawnsModel" ({ cls := "PeacockLawnsModel", name := "height", desc := "(I)I" } : Jvm.MethodName) ({ cls := "PeacockLawnsModel", name := "height", desc := "(I)I" } : Jvm.MethodName)) ∈ lw_all := lw_g (lw_at lw_m9 163 rfl) rfl
theorem q2163 : (Jvm.Cond.code ({ cls := "PeacockLawnsModel", name := "height", desc := "(I)I" } : Jvm.MethodName) prog_14_method_17_code (2 : Nat) (Option.some Jvm.ClassFile.FieldType.int)) ∈ lw_all := lw_g (lw_at lw_m9 164 rfl) rfl
theorem q2164 : (Jvm.Cond.methodLink "PeacockLawnsModel" (90 : Nat) ({ cls := "PeacockLawnsModel", name := "isHedge", desc := "(I)Z" } : Jvm.MethodName)) ∈ lw_all := lw_g (lw_at lw_m9 165 rfl) rfl
theorem q2165 : (Jvm.Cond.static ({ cls := "PeacockLawnsModel", name := "isHedge", desc := "(I)Z" } : Jvm.MethodName)) ∈ lw_all := lw_g (lw_at lw_m9 166 rfl) rfl
theorem q2166 : (Jvm.Cond.code ({ cls := "PeacockLawnsModel", name := "isHedge", desc := "(I)Z" } : Jvm.MethodName) prog_14_method_10_code (1 : Nat) (Option.some Jvm.ClassFile.FieldType.boolean)) ∈ lw_all := lw_g (lw_at lw_m9 167 rfl) rfl
theorem q2167 : (Jvm.Cond.methodLink "PeacockLawnsModel" (68 : Nat) ({ cls := "PeacockLawnsModel", name := "isBetween", desc := "(III)Z" } : Jvm.MethodName)) ∈ lw_all := lw_g (lw_at lw_m9 168 rfl) rfl
theorem q2168 : (Jvm.Cond.static ({ cls := "PeacockLawnsModel", name := "isBetween", desc := "(III)Z" } : Jvm.MethodName)) ∈ lw_all := lw_g (lw_at lw_m9 169 rfl) rfl
theorem q2169 : (Jvm.Cond.code ({ cls := "PeacockLawnsModel", name := "isBetween", desc := "(III)Z" } : Jvm.MethodName) prog_14_method_3_code (3 : Nat) (Option.some Jvm.ClassFile.FieldType.boolean)) ∈ lw_all := lw_g (lw_at lw_m9 170 rfl) rfl
theorem q2170 : (Jvm.Cond.methodLink "PeacockLawnsModel" (94 : Nat) ({ cls := "PeacockLawnsModel", name := "fails", desc := "(IZ)Z" } : Jvm.MethodName)) ∈ lw_all := lw_g (lw_at lw_m9 171 rfl) rfl
theorem q2171 : (Jvm.Cond.privateMethod ({ cls := "PeacockLawnsModel", name := "fails", desc := "(IZ)Z" } : Jvm.MethodName)) ∈ lw_tbl := lw_at lw_m9 172 rfl
theorem q2172 : (Jvm.Cond.instanceMethod ({ cls := "PeacockLawnsModel", name := "fails", desc := "(IZ)Z" } : Jvm.MethodName)) ∈ lw_all := lw_g (lw_at lw_m9 173 rfl) rfl
theorem q2173 : (Jvm.Cond.code ({ cls := "PeacockLawnsModel", name := "fails", desc := "(IZ)Z" } : Jvm.MethodName) prog_14_method_5_code (3 : Nat) (Option.some Jvm.ClassFile.FieldType.boolean)) ∈ lw_all := lw_g (lw_at lw_m9 174 rfl) rfl
theorem q2175 : (Jvm.Cond.instanceMethod ({ cls := "PeacockLawnsModel", name := "cock", desc := "(III)I" } : Jvm.MethodName)) ∈ lw_all := lw_g (lw_at lw_m9 176 rfl) rfl
theorem q2176 : (Jvm.Cond.selects "PeacockLawnsModel" ({ cls := "PeacockLawnsModel", name := "cock", desc := "(III)I" } : Jvm.MethodName) ({ cls := "PeacockLawnsModel", name := "cock", desc := "(III)I" } : Jvm.MethodName)) ∈ lw_all := lw_g (lw_at lw_m9 177 rfl) rfl
theorem q2177 : (Jvm.Cond.code ({ cls := "PeacockLawnsModel", name := "cock", desc := "(III)I" } : Jvm.MethodName) prog_14_method_25_code (4 : Nat) (Option.some Jvm.ClassFile.FieldType.int)) ∈ lw_all := lw_g (lw_at lw_m9 178 rfl) rfl
theorem q2178 : (Jvm.Cond.methodLink "PeacockLawnsModel" (112 : Nat) ({ cls := "PeacockLawnsModel", name := "isLawn", desc := "(I)Z" } : Jvm.MethodName)) ∈ lw_all := lw_g (lw_at lw_m9 179 rfl) rfl
theorem q2179 : (Jvm.Cond.static ({ cls := "PeacockLawnsModel", name := "isLawn", desc := "(I)Z" } : Jvm.MethodName)) ∈ lw_all := lw_g (lw_at lw_m9 180 rfl) rfl
theorem q2180 : (Jvm.Cond.code ({ cls := "PeacockLawnsModel", name := "isLawn", desc := "(I)Z" } : Jvm.MethodName) prog_14_method_9_code (1 : Nat) (Option.some Jvm.ClassFile.FieldType.boolean)) ∈ lw_all := lw_g (lw_at lw_m9 181 rfl) rfl
theorem q2181 : (Jvm.Cond.methodLink "PeacockLawnsModel" (115 : Nat) ({ cls := "PeacockLawnsModel", name := "isBuyRefused", desc := "(I)Z" } : Jvm.MethodName)) ∈ lw_all := lw_g (lw_at lw_m9 182 rfl) rfl
theorem q2182 : (Jvm.Cond.privateMethod ({ cls := "PeacockLawnsModel", name := "isBuyRefused", desc := "(I)Z" } : Jvm.MethodName)) ∈ lw_tbl := lw_at lw_m9 183 rfl
theorem q2183 : (Jvm.Cond.instanceMethod ({ cls := "PeacockLawnsModel", name := "isBuyRefused", desc := "(I)Z" } : Jvm.MethodName)) ∈ lw_all := lw_g (lw_at lw_m9 184 rfl) rfl
theorem q2184 : (Jvm.Cond.code ({ cls := "PeacockLawnsModel", name := "isBuyRefused", desc := "(I)Z" } : Jvm.MethodName) prog_14_method_24_code (2 : Nat) (Option.some Jvm.ClassFile.FieldType.boolean)) ∈ lw_all := lw_g (lw_at lw_m9 185 rfl) rfl
theorem q2185 : (Jvm.Cond.methodLink "PeacockLawnsModel" (108 : Nat) ({ cls := "PeacockLawnsModel", name := "refuse", desc := "(ZII)Z" } : Jvm.MethodName)) ∈ lw_all := lw_g (lw_at lw_m9 186 rfl) rfl
theorem q2186 : (Jvm.Cond.privateMethod ({ cls := "PeacockLawnsModel", name := "refuse", desc := "(ZII)Z" } : Jvm.MethodName)) ∈ lw_tbl := lw_at lw_m9 187 rfl
theorem q2187 : (Jvm.Cond.instanceMethod ({ cls := "PeacockLawnsModel", name := "refuse", desc := "(ZII)Z" } : Jvm.MethodName)) ∈ lw_all := lw_g (lw_at lw_m9 188 rfl) rfl
theorem q2188 : (Jvm.Cond.code ({ cls := "PeacockLawnsModel", name := "refuse", desc := "(ZII)Z" } : Jvm.MethodName) prog_14_method_6_code (4 : Nat) (Option.some Jvm.ClassFile.FieldType.boolean)) ∈ lw_all := lw_g (lw_at lw_m9 189 rfl) rfl
theorem q2189 : (Jvm.Cond.methodLink "PeacockLawnsModel" (118 : Nat) ({ cls := "PeacockLawnsModel", name := "change", desc := "()V" } : Jvm.MethodName)) ∈ lw_all := lw_g (lw_at lw_m9 190 rfl) rfl
theorem q2190 : (Jvm.Cond.privateMethod ({ cls := "PeacockLawnsModel", name := "change", desc := "()V" } : Jvm.MethodName)) ∈ lw_tbl := lw_at lw_m9 191 rfl
theorem q2191 : (Jvm.Cond.instanceMethod ({ cls := "PeacockLawnsModel", name := "change", desc := "()V" } : Jvm.MethodName)) ∈ lw_all := lw_g (lw_at lw_m9 192 rfl) rfl
theorem q2192 : (Jvm.Cond.code ({ cls := "PeacockLawnsModel", name := "change", desc := "()V" } : Jvm.MethodName) prog_14_method_8_code (1 : Nat) (Option.none : Option Jvm.ClassFile.FieldType)) ∈ lw_all := lw_g (lw_at lw_m9 193 rfl) rfl
theorem q2193 : (Jvm.Cond.methodLink "PeacockLawnsModel" (64 : Nat) ({ cls := "PeacockLawnsModel", name := "remember", desc := "([I)V" } : Jvm.MethodName)) ∈ lw_all := lw_g (lw_at lw_m9 194 rfl) rfl
theorem q2194 : (Jvm.Cond.privateMethod ({ cls := "PeacockLawnsModel", name := "remember", desc := "([I)V" } : Jvm.MethodName)) ∈ lw_tbl := lw_at lw_m9 195 rfl
theorem q2195 : (Jvm.Cond.instanceMethod ({ cls := "PeacockLawnsModel", name := "remember", desc := "([I)V" } : Jvm.MethodName)) ∈ lw_all := lw_g (lw_at lw_m9 196 rfl) rfl
theorem q2196 : (Jvm.Cond.code ({ cls := "PeacockLawnsModel", name := "remember", desc := "([I)V" } : Jvm.MethodName) prog_14_method_7_code (3 : Nat) (Option.none : Option Jvm.ClassFile.FieldType)) ∈ lw_all := lw_g (lw_at lw_m9 197 rfl) rfl
theorem q2197 : (Jvm.Cond.methodLink "PeacockLawnsModel" (56 : Nat) ({ cls := "PeacockLawnsModel", name := "copyRow", desc := "([I[I)V" } : Jvm.MethodName)) ∈ lw_all := lw_g (lw_at lw_m9 198 rfl) rfl
theorem q2198 : (Jvm.Cond.static ({ cls := "PeacockLawnsModel", name := "copyRow", desc := "([I[I)V" } : Jvm.MethodName)) ∈ lw_all := lw_g (lw_at lw_m9 199 rfl) rfl
theorem q2199 : (Jvm.Cond.code ({ cls := "PeacockLawnsModel", name := "copyRow", desc := "([I[I)V" } : Jvm.MethodName) prog_14_method_4_code (3 : Nat) (Option.none : Option Jvm.ClassFile.FieldType)) ∈ lw_all := lw_g (lw_at lw_m9 200 rfl) rfl
theorem q2200 : (Jvm.Cond.methodLink "PeacockLawnsModel" (121 : Nat) ({ cls := "PeacockLawnsModel", name := "addBird", desc := "(IIIII)I" } : Jvm.MethodName)) ∈ lw_all := lw_g (lw_at lw_m9 201 rfl) rfl
theorem q2201 : (Jvm.Cond.privateMethod ({ cls := "PeacockLawnsModel", name := "addBird", desc := "(IIIII)I" } : Jvm.MethodName)) ∈ lw_tbl := lw_at lw_m9 202 rfl
theorem q2202 : (Jvm.Cond.instanceMethod ({ cls := "PeacockLawnsModel", name := "addBird", desc := "(IIIII)I" } : Jvm.MethodName)) ∈ lw_all := lw_g (lw_at lw_m9 203 rfl) rfl
theorem q2203 : (Jvm.Cond.code ({ cls := "PeacockLawnsModel", name := "addBird", desc := "(IIIII)I" } : Jvm.MethodName) prog_14_method_23_code (7 : Nat) (Option.some Jvm.ClassFile.FieldType.int)) ∈ lw_all := lw_g (lw_at lw_m9 204 rfl) rfl
theorem q2204 : (Jvm.Cond.methodLink "PeacockLawnsModel" (104 : Nat) ({ cls := "PeacockLawnsModel", name := "put", desc := "(III)V" } : Jvm.MethodName)) ∈ lw_all := lw_g (lw_at lw_m9 205 rfl) rfl
theorem q2205 : (Jvm.Cond.privateMethod ({ cls := "PeacockLawnsModel", name := "put", desc := "(III)V" } : Jvm.MethodName)) ∈ lw_tbl := lw_at lw_m9 206 rfl
theorem q2206 : (Jvm.Cond.instanceMethod ({ cls := "PeacockLawnsModel", name := "put", desc := "(III)V" } : Jvm.MethodName)) ∈ lw_all := lw_g (lw_at lw_m9 207 rfl) rfl
theorem q2207 : (Jvm.Cond.code ({ cls := "PeacockLawnsModel", name := "put", desc := "(III)V" } : Jvm.MethodName) prog_14_method_20_code (4 : Nat) (Option.none : Option Jvm.ClassFile.FieldType)) ∈ lw_all := lw_g (lw_at lw_m9 208 rfl) rfl
theorem q2209 : (Jvm.Cond.instanceMethod ({ cls := "PeacockLawnsModel", name := "hen", desc := "(I)I" } : Jvm.MethodName)) ∈ lw_all := lw_g (lw_at lw_m9 210 rfl) rfl
theorem q2210 : (Jvm.Cond.selects "PeacockLawnsModel" ({ cls := "PeacockLawnsModel", name := "hen", desc := "(I)I" } : Jvm.MethodName) ({ cls := "PeacockLawnsModel", name := "hen", desc := "(I)I" } : Jvm.MethodName)) ∈ lw_all := lw_g (lw_at lw_m9 211 rfl) rfl
theorem q2211 : (Jvm.Cond.code ({ cls := "PeacockLawnsModel", name := "hen", desc := "(I)I" } : Jvm.MethodName) prog_14_method_26_code (2 : Nat) (Option.some Jvm.ClassFile.FieldType.int)) ∈ lw_all := lw_g (lw_at lw_m9 212 rfl) rfl
theorem q2213 : (Jvm.Cond.instanceMethod ({ cls := "PeacockLawnsModel", name := "lay", desc := "(I)I" } : Jvm.MethodName)) ∈ lw_all := lw_g (lw_at lw_m9 214 rfl) rfl
theorem q2214 : (Jvm.Cond.selects "PeacockLawnsModel" ({ cls := "PeacockLawnsModel", name := "lay", desc := "(I)I" } : Jvm.MethodName) ({ cls := "PeacockLawnsModel", name := "lay", desc := "(I)I" } : Jvm.MethodName)) ∈ lw_all := lw_g (lw_at lw_m9 215 rfl) rfl
theorem q2215 : (Jvm.Cond.code ({ cls := "PeacockLawnsModel", name := "lay", desc := "(I)I" } : Jvm.MethodName) prog_14_method_28_code (2 : Nat) (Option.some Jvm.ClassFile.FieldType.int)) ∈ lw_all := lw_g (lw_at lw_m9 216 rfl) rfl
theorem q2216 : (Jvm.Cond.methodLink "PeacockLawnsModel" (125 : Nat) ({ cls := "PeacockLawnsModel", name := "isBird", desc := "(I)Z" } : Jvm.MethodName)) ∈ lw_all := lw_g (lw_at lw_m9 217 rfl) rfl
theorem q2217 : (Jvm.Cond.privateMethod ({ cls := "PeacockLawnsModel", name := "isBird", desc := "(I)Z" } : Jvm.MethodName)) ∈ lw_tbl := lw_at lw_m9 218 rfl
theorem q2218 : (Jvm.Cond.instanceMethod ({ cls := "PeacockLawnsModel", name := "isBird", desc := "(I)Z" } : Jvm.MethodName)) ∈ lw_all := lw_g (lw_at lw_m9 219 rfl) rfl
theorem q2219 : (Jvm.Cond.code ({ cls := "PeacockLawnsModel", name := "isBird", desc := "(I)Z" } : Jvm.MethodName) prog_14_method_18_code (2 : Nat) (Option.some Jvm.ClassFile.FieldType.boolean)) ∈ lw_all := lw_g (lw_at lw_m9 220 rfl) rfl
theorem q2220 : (Jvm.Cond.methodLink "PeacockLawnsModel" (128 : Nat) ({ cls := "PeacockLawnsModel", name := "isLayRefused", desc := "(I)Z" } : Jvm.MethodName)) ∈ lw_all := lw_g (lw_at lw_m9 221 rfl) rfl
theorem q2221 : (Jvm.Cond.privateMethod ({ cls := "PeacockLawnsModel", name := "isLayRefused", desc := "(I)Z" } : Jvm.MethodName)) ∈ lw_tbl := lw_at lw_m9 222 rfl
theorem q2222 : (Jvm.Cond.instanceMethod ({ cls := "PeacockLawnsModel", name := "isLayRefused", desc := "(I)Z" } : Jvm.MethodName)) ∈ lw_all := lw_g (lw_at lw_m9 223 rfl) rfl
theorem q2223 : (Jvm.Cond.code ({ cls := "PeacockLawnsModel", name := "isLayRefused", desc := "(I)Z" } : Jvm.MethodName) prog_14_method_27_code (2 : Nat) (Option.some Jvm.ClassFile.FieldType.boolean)) ∈ lw_all := lw_g (lw_at lw_m9 224 rfl) rfl
theorem q2224 : (Jvm.Cond.methodLink "PeacockLawnsModel" (101 : Nat) ({ cls := "PeacockLawnsModel", name := "isHen", desc := "(I)Z" } : Jvm.MethodName)) ∈ lw_all := lw_g (lw_at lw_m9 225 rfl) rfl
theorem q2225 : (Jvm.Cond.privateMethod ({ cls := "PeacockLawnsModel", name := "isHen", desc := "(I)Z" } : Jvm.MethodName)) ∈ lw_tbl := lw_at lw_m9 226 rfl
theorem q2226 : (Jvm.Cond.instanceMethod ({ cls := "PeacockLawnsModel", name := "isHen", desc := "(I)Z" } : Jvm.MethodName)) ∈ lw_all := lw_g (lw_at lw_m9 227 rfl) rfl
theorem q2227 : (Jvm.Cond.code ({ cls := "PeacockLawnsModel", name := "isHen", desc := "(I)Z" } : Jvm.MethodName) prog_14_method_21_code (2 : Nat) (Option.some Jvm.ClassFile.FieldType.boolean)) ∈ lw_all := lw_g (lw_at lw_m9 228 rfl) rfl
theorem q2228 : (Jvm.Cond.methodLink "PeacockLawnsModel" (98 : Nat) ({ cls := "PeacockLawnsModel", name := "of", desc := "(II)I" } : Jvm.MethodName)) ∈ lw_all := lw_g (lw_at lw_m9 229 rfl) rfl
theorem q2229 : (Jvm.Cond.privateMethod ({ cls := "PeacockLawnsModel", name := "of", desc := "(II)I" } : Jvm.MethodName)) ∈ lw_tbl := lw_at lw_m9 230 rfl
theorem q2230 : (Jvm.Cond.instanceMethod ({ cls := "PeacockLawnsModel", name := "of", desc := "(II)I" } : Jvm.MethodName)) ∈ lw_all := lw_g (lw_at lw_m9 231 rfl) rfl
theorem q2231 : (Jvm.Cond.code ({ cls := "PeacockLawnsModel", name := "of", desc := "(II)I" } : Jvm.MethodName) prog_14_method_19_code (3 : Nat) (Option.some Jvm.ClassFile.FieldType.int)) ∈ lw_all := lw_g (lw_at lw_m9 232 rfl) rfl
theorem q2233 : (Jvm.Cond.instanceMethod ({ cls := "PeacockLawnsModel", name := "birdOf", desc := "(II)I" } : Jvm.MethodName)) ∈ lw_all := lw_g (lw_at lw_m9 234 rfl) rfl
theorem q2234 : (Jvm.Cond.selects "PeacockLawnsModel" ({ cls := "PeacockLawnsModel", name := "birdOf", desc := "(II)I" } : Jvm.MethodName) ({ cls := "PeacockLawnsModel", name := "birdOf", desc := "(II)I" } : Jvm.MethodName)) ∈ lw_all := lw_g (lw_at lw_m9 235 rfl) rfl
theorem q2235 : (Jvm.Cond.code ({ cls := "PeacockLawnsModel", name := "birdOf", desc := "(II)I" } : Jvm.MethodName) prog_14_method_30_code (3 : Nat) (Option.some Jvm.ClassFile.FieldType.int)) ∈ lw_all := lw_g (lw_at lw_m9 236 rfl) rfl
theorem q2236 : (Jvm.Cond.methodLink "PeacockLawnsModel" (131 : Nat) ({ cls := "PeacockLawnsModel", name := "below", desc := "(I)I" } : Jvm.MethodName)) ∈ lw_all := lw_g (lw_at lw_m9 237 rfl) rfl
theorem q2237 : (Jvm.Cond.privateMethod ({ cls := "PeacockLawnsModel", name := "below", desc := "(I)I" } : Jvm.MethodName)) ∈ lw_tbl := lw_at lw_m9 238 rfl
theorem q2238 : (Jvm.Cond.instanceMethod ({ cls := "PeacockLawnsModel", name := "below", desc := "(I)I" } : Jvm.MethodName)) ∈ lw_all := lw_g (lw_at lw_m9 239 rfl) rfl
theorem q2239 : (Jvm.Cond.code ({ cls := "PeacockLawnsModel", name := "below", desc := "(I)I" } : Jvm.MethodName) prog_14_method_29_code (4 : Nat) (Option.some Jvm.ClassFile.FieldType.int)) ∈ lw_all := lw_g (lw_at lw_m10 0 rfl) rfl
theorem q2241 : (Jvm.Cond.instanceMethod ({ cls := "PeacockLawnsModel", name := "goesTo", desc := "(I)I" } : Jvm.MethodName)) ∈ lw_all := lw_g (lw_at lw_m10 2 rfl) rfl
theorem q2242 : (Jvm.Cond.selects "PeacockLawnsModel" ({ cls := "PeacockLawnsModel", name := "goesTo", desc := "(I)I" } : Jvm.MethodName) ({ cls := "PeacockLawnsModel", name := "goesTo", desc := "(I)I" } : Jvm.MethodName)) ∈ lw_all := lw_g (lw_at lw_m10 3 rfl) rfl
theorem q2243 : (Jvm.Cond.code ({ cls := "PeacockLawnsModel", name := "goesTo", desc := "(I)I" } : Jvm.MethodName) prog_14_method_32_code (2 : Nat) (Option.some Jvm.ClassFile.FieldType.int)) ∈ lw_all := lw_g (lw_at lw_m10 4 rfl) rfl
theorem q2244 : (Jvm.Cond.methodLink "PeacockLawnsModel" (140 : Nat) ({ cls := "PeacockLawnsModel", name := "goal", desc := "(I)I" } : Jvm.MethodName)) ∈ lw_all := lw_g (lw_at lw_m10 5 rfl) rfl
theorem q2245 : (Jvm.Cond.privateMethod ({ cls := "PeacockLawnsModel", name := "goal", desc := "(I)I" } : Jvm.MethodName)) ∈ lw_tbl := lw_at lw_m10 6 rfl
theorem q2246 : (Jvm.Cond.instanceMethod ({ cls := "PeacockLawnsModel", name := "goal", desc := "(I)I" } : Jvm.MethodName)) ∈ lw_all := lw_g (lw_at lw_m10 7 rfl) rfl
theorem q2247 : (Jvm.Cond.code ({ cls := "PeacockLawnsModel", name := "goal", desc := "(I)I" } : Jvm.MethodName) prog_14_method_31_code (3 : Nat) (Option.some Jvm.ClassFile.FieldType.int)) ∈ lw_all := lw_g (lw_at lw_m10 8 rfl) rfl
theorem q2248 : (Jvm.Cond.methodLink "PeacockLawnsModel" (134 : Nat) ({ cls := "PeacockLawnsModel", name := "hasEggs", desc := "(I)Z" } : Jvm.MethodName)) ∈ lw_all := lw_g (lw_at lw_m10 9 rfl) rfl
theorem q2249 : (Jvm.Cond.privateMethod ({ cls := "PeacockLawnsModel", name := "hasEggs", desc := "(I)Z" } : Jvm.MethodName)) ∈ lw_tbl := lw_at lw_m10 10 rfl
theorem q2250 : (Jvm.Cond.instanceMethod ({ cls := "PeacockLawnsModel", name := "hasEggs", desc := "(I)Z" } : Jvm.MethodName)) ∈ lw_all := lw_g (lw_at lw_m10 11 rfl) rfl
theorem q2251 : (Jvm.Cond.code ({ cls := "PeacockLawnsModel", name := "hasEggs", desc := "(I)Z" } : Jvm.MethodName) prog_14_method_22_code (2 : Nat) (Option.some Jvm.ClassFile.FieldType.boolean)) ∈ lw_all := lw_g (lw_at lw_m10 12 rfl) rfl
theorem q2252 : (Jvm.Cond.methodLink "PeacockLawnsModel" (137 : Nat) ({ cls := "PeacockLawnsModel", name := "goes", desc := "(II)I" } : Jvm.MethodName)) ∈ lw_all := lw_g (lw_at lw_m10 13 rfl) rfl
theorem q2253 : (Jvm.Cond.privateMethod ({ cls := "PeacockLawnsModel", name := "goes", desc := "(II)I" } : Jvm.MethodName)) ∈ lw_tbl := lw_at lw_m10 14 rfl
theorem q2254 : (Jvm.Cond.instanceMethod ({ cls := "PeacockLawnsModel", name := "goes", desc := "(II)I" } : Jvm.MethodName)) ∈ lw_all := lw_g (lw_at lw_m10 15 rfl) rfl
theorem q2255 : (Jvm.Cond.code ({ cls := "PeacockLawnsModel", name := "goes", desc := "(II)I" } : Jvm.MethodName) prog_14_method_16_code (4 : Nat) (Option.some Jvm.ClassFile.FieldType.int)) ∈ lw_all := lw_g (lw_at lw_m10 16 rfl) rfl
theorem q2256 : (Jvm.Cond.methodLink "PeacockLawnsModel" (87 : Nat) ({ cls := "PeacockLawnsModel", name := "wayOut", desc := "(I)I" } : Jvm.MethodName)) ∈ lw_all := lw_g (lw_at lw_m10 17 rfl) rfl
theorem q2257 : (Jvm.Cond.privateMethod ({ cls := "PeacockLawnsModel", name := "wayOut", desc := "(I)I" } : Jvm.MethodName)) ∈ lw_tbl := lw_at lw_m10 18 rfl
theorem q2258 : (Jvm.Cond.instanceMethod ({ cls := "PeacockLawnsModel", name := "wayOut", desc := "(I)I" } : Jvm.MethodName)) ∈ lw_all := lw_g (lw_at lw_m10 19 rfl) rfl
theorem q2259 : (Jvm.Cond.code ({ cls := "PeacockLawnsModel", name := "wayOut", desc := "(I)I" } : Jvm.MethodName) prog_14_method_15_code (5 : Nat) (Option.some Jvm.ClassFile.FieldType.int)) ∈ lw_all := lw_g (lw_at lw_m10 20 rfl) rfl
theorem q2260 : (Jvm.Cond.methodLink "PeacockLawnsModel" (79 : Nat) ({ cls := "PeacockLawnsModel", name := "isBeside", desc := "(II)Z" } : Jvm.MethodName)) ∈ lw_all := lw_g (lw_at lw_m10 21 rfl) rfl
theorem q2261 : (Jvm.Cond.static ({ cls := "PeacockLawnsModel", name := "isBeside", desc := "(II)Z" } : Jvm.MethodName)) ∈ lw_all := lw_g (lw_at lw_m10 22 rfl) rfl
theorem q2262 : (Jvm.Cond.code ({ cls := "PeacockLawnsModel", name := "isBeside", desc := "(II)Z" } : Jvm.MethodName) prog_14_method_13_code (2 : Nat) (Option.some Jvm.ClassFile.FieldType.boolean)) ∈ lw_all := lw_g (lw_at lw_m10 23 rfl) rfl
theorem q2263 : (Jvm.Cond.methodLink "PeacockLawnsModel" (72 : Nat) ({ cls := "PeacockLawnsModel", name := "firstLawn", desc := "(I)I" } : Jvm.MethodName)) ∈ lw_all := lw_g (lw_at lw_m10 24 rfl) rfl
theorem q2264 : (Jvm.Cond.static ({ cls := "PeacockLawnsModel", name := "firstLawn", desc := "(I)I" } : Jvm.MethodName)) ∈ lw_all := lw_g (lw_at lw_m10 25 rfl) rfl
theorem q2265 : (Jvm.Cond.code ({ cls := "PeacockLawnsModel", name := "firstLawn", desc := "(I)I" } : Jvm.MethodName) prog_14_method_11_code (1 : Nat) (Option.some Jvm.ClassFile.FieldType.int)) ∈ lw_all := lw_g (lw_at lw_m10 26 rfl) rfl
theorem q2266 : (Jvm.Cond.methodLink "PeacockLawnsModel" (76 : Nat) ({ cls := "PeacockLawnsModel", name := "secondLawn", desc := "(I)I" } : Jvm.MethodName)) ∈ lw_all := lw_g (lw_at lw_m10 27 rfl) rfl
theorem q2267 : (Jvm.Cond.static ({ cls := "PeacockLawnsModel", name := "secondLawn", desc := "(I)I" } : Jvm.MethodName)) ∈ lw_all := lw_g (lw_at lw_m10 28 rfl) rfl
theorem q2268 : (Jvm.Cond.code ({ cls := "PeacockLawnsModel", name := "secondLawn", desc := "(I)I" } : Jvm.MethodName) prog_14_method_12_code (1 : Nat) (Option.some Jvm.ClassFile.FieldType.int)) ∈ lw_all := lw_g (lw_at lw_m10 29 rfl) rfl
theorem q2269 : (Jvm.Cond.methodLink "PeacockLawnsModel" (83 : Nat) ({ cls := "PeacockLawnsModel", name := "across", desc := "(II)I" } : Jvm.MethodName)) ∈ lw_all := lw_g (lw_at lw_m10 30 rfl) rfl
theorem q2270 : (Jvm.Cond.static ({ cls := "PeacockLawnsModel", name := "across", desc := "(II)I" } : Jvm.MethodName)) ∈ lw_all := lw_g (lw_at lw_m10 31 rfl) rfl
theorem q2271 : (Jvm.Cond.code ({ cls := "PeacockLawnsModel", name := "across", desc := "(II)I" } : Jvm.MethodName) prog_14_method_14_code (2 : Nat) (Option.some Jvm.ClassFile.FieldType.int)) ∈ lw_all := lw_g (lw_at lw_m10 32 rfl) rfl
theorem q2273 : (Jvm.Cond.instanceMethod ({ cls := "PeacockLawnsModel", name := "ordered", desc := "(I)I" } : Jvm.MethodName)) ∈ lw_all := lw_g (lw_at lw_m10 34 rfl) rfl
theorem q2274 : (Jvm.Cond.selects "PeacockLawnsModel" ({ cls := "PeacockLawnsModel", name := "ordered", desc := "(I)I" } : Jvm.MethodName) ({ cls := "PeacockLawnsModel", name := "ordered", desc := "(I)I" } : Jvm.MethodName)) ∈ lw_all := lw_g (lw_at lw_m10 35 rfl) rfl
theorem q2275 : (Jvm.Cond.code ({ cls := "PeacockLawnsModel", name := "ordered", desc := "(I)I" } : Jvm.MethodName) prog_14_method_34_code (2 : Nat) (Option.some Jvm.ClassFile.FieldType.int)) ∈ lw_all := lw_g (lw_at lw_m10 36 rfl) rfl
theorem q2276 : (Jvm.Cond.methodLink "PeacockLawnsModel" (146 : Nat) ({ cls := "PeacockLawnsModel", name := "follow", desc := "(I)V" } : Jvm.MethodName)) ∈ lw_all := lw_g (lw_at lw_m10 37 rfl) rfl
theorem q2277 : (Jvm.Cond.privateMethod ({ cls := "PeacockLawnsModel", name := "follow", desc := "(I)V" } : Jvm.MethodName)) ∈ lw_tbl := lw_at lw_m10 38 rfl
theorem q2278 : (Jvm.Cond.instanceMethod ({ cls := "PeacockLawnsModel", name := "follow", desc := "(I)V" } : Jvm.MethodName)) ∈ lw_all := lw_g (lw_at lw_m10 39 rfl) rfl
theorem q2279 : (Jvm.Cond.code ({ cls := "PeacockLawnsModel", name := "follow", desc := "(I)V" } : Jvm.MethodName) prog_14_method_33_code (3 : Nat) (Option.none : Option Jvm.ClassFile.FieldType)) ∈ lw_all := lw_g (lw_at lw_m10 40 rfl) rfl
theorem q2281 : (Jvm.Cond.instanceMethod ({ cls := "PeacockLawnsModel", name := "fox", desc := "()I" } : Jvm.MethodName)) ∈ lw_all := lw_g (lw_at lw_m10 42 rfl) rfl
theorem q2282 : (Jvm.Cond.selects "PeacockLawnsModel" ({ cls := "PeacockLawnsModel", name := "fox", desc := "()I" } : Jvm.MethodName) ({ cls := "PeacockLawnsModel", name := "fox", desc := "()I" } : Jvm.MethodName)) ∈ lw_all := lw_g (lw_at lw_m10 43 rfl) rfl
theorem q2283 : (Jvm.Cond.code ({ cls := "PeacockLawnsModel", name := "fox", desc := "()I" } : Jvm.MethodName) prog_14_method_35_code (1 : Nat) (Option.some Jvm.ClassFile.FieldType.int)) ∈ lw_all := lw_g (lw_at lw_m10 44 rfl) rfl
theorem q2285 : (Jvm.Cond.instanceMethod ({ cls := "PeacockLawnsModel", name := "lawnOf", desc := "(II)I" } : Jvm.MethodName)) ∈ lw_all := lw_g (lw_at lw_m10 46 rfl) rfl
theorem q2286 : (Jvm.Cond.selects "PeacockLawnsModel" ({ cls := "PeacockLawnsModel", name := "lawnOf", desc := "(II)I" } : Jvm.MethodName) ({ cls := "PeacockLawnsModel", name := "lawnOf", desc := "(II)I" } : Jvm.MethodName)) ∈ lw_all := lw_g (lw_at lw_m10 47 rfl) rfl
theorem q2287 : (Jvm.Cond.code ({ cls := "PeacockLawnsModel", name := "lawnOf", desc := "(II)I" } : Jvm.MethodName) prog_14_method_37_code (3 : Nat) (Option.some Jvm.ClassFile.FieldType.int)) ∈ lw_all := lw_g (lw_at lw_m10 48 rfl) rfl
theorem q2288 : (Jvm.Cond.methodLink "PeacockLawnsModel" (150 : Nat) ({ cls := "PeacockLawnsModel", name := "countOn", desc := "(IIII)I" } : Jvm.MethodName)) ∈ lw_all := lw_g (lw_at lw_m10 49 rfl) rfl
theorem q2289 : (Jvm.Cond.privateMethod ({ cls := "PeacockLawnsModel", name := "countOn", desc := "(IIII)I" } : Jvm.MethodName)) ∈ lw_tbl := lw_at lw_m10 50 rfl
theorem q2290 : (Jvm.Cond.instanceMethod ({ cls := "PeacockLawnsModel", name := "countOn", desc := "(IIII)I" } : Jvm.MethodName)) ∈ lw_all := lw_g (lw_at lw_m10 51 rfl) rfl
theorem q2291 : (Jvm.Cond.code ({ cls := "PeacockLawnsModel", name := "countOn", desc := "(IIII)I" } : Jvm.MethodName) prog_14_method_36_code (7 : Nat) (Option.some Jvm.ClassFile.FieldType.int)) ∈ lw_all := lw_g (lw_at lw_m10 52 rfl) rfl
theorem q2293 : (Jvm.Cond.instanceMethod ({ cls := "PeacockLawnsModel", name := "reached", desc := "(II)I" } : Jvm.MethodName)) ∈ lw_all := lw_g (lw_at lw_m10 54 rfl) rfl
theorem q2294 : (Jvm.Cond.selects "PeacockLawnsModel" ({ cls := "PeacockLawnsModel", name := "reached", desc := "(II)I" } : Jvm.MethodName) ({ cls := "PeacockLawnsModel", name := "reached", desc := "(II)I" } : Jvm.MethodName)) ∈ lw_all := lw_g (lw_at lw_m10 55 rfl) rfl
theorem q2295 : (Jvm.Cond.code ({ cls := "PeacockLawnsModel", name := "reached", desc := "(II)I" } : Jvm.MethodName) prog_14_method_39_code (3 : Nat) (Option.some Jvm.ClassFile.FieldType.int)) ∈ lw_all := lw_g (lw_at lw_m10 56 rfl) rfl
theorem q2296 : (Jvm.Cond.methodLink "PeacockLawnsModel" (154 : Nat) ({ cls := "PeacockLawnsModel", name := "walkOn", desc := "(III)I" } : Jvm.MethodName)) ∈ lw_all := lw_g (lw_at lw_m10 57 rfl) rfl
theorem q2297 : (Jvm.Cond.privateMethod ({ cls := "PeacockLawnsModel", name := "walkOn", desc := "(III)I" } : Jvm.MethodName)) ∈ lw_tbl := lw_at lw_m10 58 rfl
theorem q2298 : (Jvm.Cond.instanceMethod ({ cls := "PeacockLawnsModel", name := "walkOn", desc := "(III)I" } : Jvm.MethodName)) ∈ lw_all := lw_g (lw_at lw_m10 59 rfl) rfl
theorem q2299 : (Jvm.Cond.code ({ cls := "PeacockLawnsModel", name := "walkOn", desc := "(III)I" } : Jvm.MethodName) prog_14_method_38_code (6 : Nat) (Option.some Jvm.ClassFile.FieldType.int)) ∈ lw_all := lw_g (lw_at lw_m10 60 rfl) rfl
theorem q2301 : (Jvm.Cond.instanceMethod ({ cls := "PeacockLawnsModel", name := "reachedAgain", desc := "(II)I" } : Jvm.MethodName)) ∈ lw_all := lw_g (lw_at lw_m10 62 rfl) rfl
theorem q2302 : (Jvm.Cond.selects "PeacockLawnsModel" ({ cls := "PeacockLawnsModel", name := "reachedAgain", desc := "(II)I" } : Jvm.MethodName) ({ cls := "PeacockLawnsModel", name := "reachedAgain", desc := "(II)I" } : Jvm.MethodName)) ∈ lw_all := lw_g (lw_at lw_m10 63 rfl) rfl
theorem q2303 : (Jvm.Cond.code ({ cls := "PeacockLawnsModel", name := "reachedAgain", desc := "(II)I" } : Jvm.MethodName) prog_14_method_40_code (7 : Nat) (Option.some Jvm.ClassFile.FieldType.int)) ∈ lw_all := lw_g (lw_at lw_m10 64 rfl) rfl
theorem q2305 : (Jvm.Cond.instanceMethod ({ cls := "PeacockLawnsModel", name := "richest", desc := "()I" } : Jvm.MethodName)) ∈ lw_all := lw_g (lw_at lw_m10 66 rfl) rfl
theorem q2306 : (Jvm.Cond.selects "PeacockLawnsModel" ({ cls := "PeacockLawnsModel", name := "richest", desc := "()I" } : Jvm.MethodName) ({ cls := "PeacockLawnsModel", name := "richest", desc := "()I" } : Jvm.MethodName)) ∈ lw_all := lw_g (lw_at lw_m10 67 rfl) rfl
theorem q2307 : (Jvm.Cond.code ({ cls := "PeacockLawnsModel", name := "richest", desc := "()I" } : Jvm.MethodName) prog_14_method_41_code (3 : Nat) (Option.some Jvm.ClassFile.FieldType.int)) ∈ lw_all := lw_g (lw_at lw_m10 68 rfl) rfl
theorem q2309 : (Jvm.Cond.instanceMethod ({ cls := "PeacockLawnsModel", name := "keeper", desc := "()I" } : Jvm.MethodName)) ∈ lw_all := lw_g (lw_at lw_m10 70 rfl) rfl
theorem q2310 : (Jvm.Cond.selects "PeacockLawnsModel" ({ cls := "PeacockLawnsModel", name := "keeper", desc := "()I" } : Jvm.MethodName) ({ cls := "PeacockLawnsModel", name := "keeper", desc := "()I" } : Jvm.MethodName)) ∈ lw_all := lw_g (lw_at lw_m10 71 rfl) rfl
theorem q2311 : (Jvm.Cond.code ({ cls := "PeacockLawnsModel", name := "keeper", desc := "()I" } : Jvm.MethodName) prog_14_method_45_code (2 : Nat) (Option.some Jvm.ClassFile.FieldType.int)) ∈ lw_all := lw_g (lw_at lw_m10 72 rfl) rfl
theorem q2313 : (Jvm.Cond.instanceMethod ({ cls := "PeacockLawnsModel", name := "keeperOf", desc := "(II)I" } : Jvm.MethodName)) ∈ lw_all := lw_g (lw_at lw_m10 74 rfl) rfl
theorem q2314 : (Jvm.Cond.selects "PeacockLawnsModel" ({ cls := "PeacockLawnsModel", name := "keeperOf", desc := "(II)I" } : Jvm.MethodName) ({ cls := "PeacockLawnsModel", name := "keeperOf", desc := "(II)I" } : Jvm.MethodName)) ∈ lw_all := lw_g (lw_at lw_m10 75 rfl) rfl
theorem q2315 : (Jvm.Cond.code ({ cls := "PeacockLawnsModel", name := "keeperOf", desc := "(II)I" } : Jvm.MethodName) prog_14_method_46_code (3 : Nat) (Option.some Jvm.ClassFile.FieldType.int)) ∈ lw_all := lw_g (lw_at lw_m10 76 rfl) rfl
theorem q2316 : (Jvm.Cond.methodLink "PeacockLawnsModel" (158 : Nat) ({ cls := "PeacockLawnsModel", name := "isKeeper", desc := "(I)Z" } : Jvm.MethodName)) ∈ lw_all := lw_g (lw_at lw_m10 77 rfl) rfl
theorem q2317 : (Jvm.Cond.privateMethod ({ cls := "PeacockLawnsModel", name := "isKeeper", desc := "(I)Z" } : Jvm.MethodName)) ∈ lw_tbl := lw_at lw_m10 78 rfl
theorem q2318 : (Jvm.Cond.instanceMethod ({ cls := "PeacockLawnsModel", name := "isKeeper", desc := "(I)Z" } : Jvm.MethodName)) ∈ lw_all := lw_g (lw_at lw_m10 79 rfl) rfl
theorem q2319 : (Jvm.Cond.code ({ cls := "PeacockLawnsModel", name := "isKeeper", desc := "(I)Z" } : Jvm.MethodName) prog_14_method_42_code (2 : Nat) (Option.some Jvm.ClassFile.FieldType.boolean)) ∈ lw_all := lw_g (lw_at lw_m10 80 rfl) rfl
theorem q2320 : (Jvm.Cond.methodLink "PeacockLawnsModel" (161 : Nat) ({ cls := "PeacockLawnsModel", name := "ofKeeper", desc := "(II)I" } : Jvm.MethodName)) ∈ lw_all := lw_g (lw_at lw_m10 81 rfl) rfl
theorem q2321 : (Jvm.Cond.privateMethod ({ cls := "PeacockLawnsModel", name := "ofKeeper", desc := "(II)I" } : Jvm.MethodName)) ∈ lw_tbl := lw_at lw_m10 82 rfl
theorem q2322 : (Jvm.Cond.instanceMethod ({ cls := "PeacockLawnsModel", name := "ofKeeper", desc := "(II)I" } : Jvm.MethodName)) ∈ lw_all := lw_g (lw_at lw_m10 83 rfl) rfl
theorem q2323 : (Jvm.Cond.code ({ cls := "PeacockLawnsModel", name := "ofKeeper", desc := "(II)I" } : Jvm.MethodName) prog_14_method_43_code (3 : Nat) (Option.some Jvm.ClassFile.FieldType.int)) ∈ lw_all := lw_g (lw_at lw_m10 84 rfl) rfl
theorem q2325 : (Jvm.Cond.instanceMethod ({ cls := "PeacockLawnsModel", name := "walk", desc := "(II)I" } : Jvm.MethodName)) ∈ lw_all := lw_g (lw_at lw_m10 86 rfl) rfl
theorem q2326 : (Jvm.Cond.selects "PeacockLawnsModel" ({ cls := "PeacockLawnsModel", name := "walk", desc := "(II)I" } : Jvm.MethodName) ({ cls := "PeacockLawnsModel", name := "walk", desc := "(II)I" } : Jvm.MethodName)) ∈ lw_all := lw_g (lw_at lw_m10 87 rfl) rfl
theorem q2327 : (Jvm.Cond.code ({ cls := "PeacockLawnsModel", name := "walk", desc := "(II)I" } : Jvm.MethodName) prog_14_method_49_code (5 : Nat) (Option.some Jvm.ClassFile.FieldType.int)) ∈ lw_all := lw_g (lw_at lw_m10 88 rfl) rfl
theorem q2328 : (Jvm.Cond.methodLink "PeacockLawnsModel" (164 : Nat) ({ cls := "PeacockLawnsModel", name := "apart", desc := "(II)I" } : Jvm.MethodName)) ∈ lw_all := lw_g (lw_at lw_m10 89 rfl) rfl
theorem q2329 : (Jvm.Cond.static ({ cls := "PeacockLawnsModel", name := "apart", desc := "(II)I" } : Jvm.MethodName)) ∈ lw_all := lw_g (lw_at lw_m10 90 rfl) rfl
theorem q2330 : (Jvm.Cond.code ({ cls := "PeacockLawnsModel", name := "apart", desc := "(II)I" } : Jvm.MethodName) prog_14_method_47_code (2 : Nat) (Option.some Jvm.ClassFile.FieldType.int)) ∈ lw_all := lw_g (lw_at lw_m10 91 rfl) rfl
theorem q2331 : (Jvm.Cond.methodLink "PeacockLawnsModel" (167 : Nat) ({ cls := "PeacockLawnsModel", name := "lacksHours", desc := "(II)Z" } : Jvm.MethodName)) ∈ lw_all := lw_g (lw_at lw_m10 92 rfl) rfl
theorem q2332 : (Jvm.Cond.privateMethod ({ cls := "PeacockLawnsModel", name := "lacksHours", desc := "(II)Z" } : Jvm.MethodName)) ∈ lw_tbl := lw_at lw_m10 93 rfl
theorem q2333 : (Jvm.Cond.instanceMethod ({ cls := "PeacockLawnsModel", name := "lacksHours", desc := "(II)Z" } : Jvm.MethodName)) ∈ lw_all := lw_g (lw_at lw_m10 94 rfl) rfl
theorem q2334 : (Jvm.Cond.code ({ cls := "PeacockLawnsModel", name := "lacksHours", desc := "(II)Z" } : Jvm.MethodName) prog_14_method_48_code (3 : Nat) (Option.some Jvm.ClassFile.FieldType.boolean)) ∈ lw_all := lw_g (lw_at lw_m10 95 rfl) rfl
theorem q2335 : (Jvm.Cond.methodLink "PeacockLawnsModel" (170 : Nat) ({ cls := "PeacockLawnsModel", name := "addKeeper", desc := "(III)V" } : Jvm.MethodName)) ∈ lw_all := lw_g (lw_at lw_m10 96 rfl) rfl
theorem q2336 : (Jvm.Cond.privateMethod ({ cls := "PeacockLawnsModel", name := "addKeeper", desc := "(III)V" } : Jvm.MethodName)) ∈ lw_tbl := lw_at lw_m10 97 rfl
theorem q2337 : (Jvm.Cond.instanceMethod ({ cls := "PeacockLawnsModel", name := "addKeeper", desc := "(III)V" } : Jvm.MethodName)) ∈ lw_all := lw_g (lw_at lw_m10 98 rfl) rfl
theorem q2338 : (Jvm.Cond.code ({ cls := "PeacockLawnsModel", name := "addKeeper", desc := "(III)V" } : Jvm.MethodName) prog_14_method_44_code (4 : Nat) (Option.none : Option Jvm.ClassFile.FieldType)) ∈ lw_all := lw_g (lw_at lw_m10 99 rfl) rfl
theorem q2340 : (Jvm.Cond.instanceMethod ({ cls := "PeacockLawnsModel", name := "shear", desc := "(III)I" } : Jvm.MethodName)) ∈ lw_all := lw_g (lw_at lw_m10 101 rfl) rfl
theorem q2341 : (Jvm.Cond.selects "PeacockLawnsModel" ({ cls := "PeacockLawnsModel", name := "shear", desc := "(III)I" } : Jvm.MethodName) ({ cls := "PeacockLawnsModel", name := "shear", desc := "(III)I" } : Jvm.MethodName)) ∈ lw_all := lw_g (lw_at lw_m10 102 rfl) rfl
theorem q2342 : (Jvm.Cond.code ({ cls := "PeacockLawnsModel", name := "shear", desc := "(III)I" } : Jvm.MethodName) prog_14_method_51_code (5 : Nat) (Option.some Jvm.ClassFile.FieldType.int)) ∈ lw_all := lw_g (lw_at lw_m10 103 rfl) rfl
theorem q2343 : (Jvm.Cond.methodLink "PeacockLawnsModel" (173 : Nat) ({ cls := "PeacockLawnsModel", name := "isShearRefused", desc := "(III)Z" } : Jvm.MethodName)) ∈ lw_all := lw_g (lw_at lw_m10 104 rfl) rfl
theorem q2344 : (Jvm.Cond.privateMethod ({ cls := "PeacockLawnsModel", name := "isShearRefused", desc := "(III)Z" } : Jvm.MethodName)) ∈ lw_tbl := lw_at lw_m10 105 rfl
theorem q2345 : (Jvm.Cond.instanceMethod ({ cls := "PeacockLawnsModel", name := "isShearRefused", desc := "(III)Z" } : Jvm.MethodName)) ∈ lw_all := lw_g (lw_at lw_m10 106 rfl) rfl
theorem q2346 : (Jvm.Cond.code ({ cls := "PeacockLawnsModel", name := "isShearRefused", desc := "(III)Z" } : Jvm.MethodName) prog_14_method_50_code (5 : Nat) (Option.some Jvm.ClassFile.FieldType.boolean)) ∈ lw_all := lw_g (lw_at lw_m10 107 rfl) rfl
theorem q2348 : (Jvm.Cond.instanceMethod ({ cls := "PeacockLawnsModel", name := "find", desc := "(I)I" } : Jvm.MethodName)) ∈ lw_all := lw_g (lw_at lw_m10 109 rfl) rfl
theorem q2349 : (Jvm.Cond.selects "PeacockLawnsModel" ({ cls := "PeacockLawnsModel", name := "find", desc := "(I)I" } : Jvm.MethodName) ({ cls := "PeacockLawnsModel", name := "find", desc := "(I)I" } : Jvm.MethodName)) ∈ lw_all := lw_g (lw_at lw_m10 110 rfl) rfl
theorem q2350 : (Jvm.Cond.code ({ cls := "PeacockLawnsModel", name := "find", desc := "(I)I" } : Jvm.MethodName) prog_14_method_53_code (4 : Nat) (Option.some Jvm.ClassFile.FieldType.int)) ∈ lw_all := lw_g (lw_at lw_m10 111 rfl) rfl
theorem q2351 : (Jvm.Cond.methodLink "PeacockLawnsModel" (176 : Nat) ({ cls := "PeacockLawnsModel", name := "isFindRefused", desc := "(I)Z" } : Jvm.MethodName)) ∈ lw_all := lw_g (lw_at lw_m10 112 rfl) rfl
theorem q2352 : (Jvm.Cond.privateMethod ({ cls := "PeacockLawnsModel", name := "isFindRefused", desc := "(I)Z" } : Jvm.MethodName)) ∈ lw_tbl := lw_at lw_m10 113 rfl
theorem q2353 : (Jvm.Cond.instanceMethod ({ cls := "PeacockLawnsModel", name := "isFindRefused", desc := "(I)Z" } : Jvm.MethodName)) ∈ lw_all := lw_g (lw_at lw_m10 114 rfl) rfl
theorem q2354 : (Jvm.Cond.code ({ cls := "PeacockLawnsModel", name := "isFindRefused", desc := "(I)Z" } : Jvm.MethodName) prog_14_method_52_code (3 : Nat) (Option.some Jvm.ClassFile.FieldType.boolean)) ∈ lw_all := lw_g (lw_at lw_m10 115 rfl) rfl
theorem q2356 : (Jvm.Cond.instanceMethod ({ cls := "PeacockLawnsModel", name := "sell", desc := "(I)I" } : Jvm.MethodName)) ∈ lw_all := lw_g (lw_at lw_m10 117 rfl) rfl
theorem q2357 : (Jvm.Cond.selects "PeacockLawnsModel" ({ cls := "PeacockLawnsModel", name := "sell", desc := "(I)I" } : Jvm.MethodName) ({ cls := "PeacockLawnsModel", name := "sell", desc := "(I)I" } : Jvm.MethodName)) ∈ lw_all := lw_g (lw_at lw_m10 118 rfl) rfl
theorem q2358 : (Jvm.Cond.code ({ cls := "PeacockLawnsModel", name := "sell", desc := "(I)I" } : Jvm.MethodName) prog_14_method_54_code (3 : Nat) (Option.some Jvm.ClassFile.FieldType.int)) ∈ lw_all := lw_g (lw_at lw_m10 119 rfl) rfl
theorem q2360 : (Jvm.Cond.instanceMethod ({ cls := "PeacockLawnsModel", name := "bench", desc := "(I)I" } : Jvm.MethodName)) ∈ lw_all := lw_g (lw_at lw_m10 121 rfl) rfl
theorem q2361 : (Jvm.Cond.selects "PeacockLawnsModel" ({ cls := "PeacockLawnsModel", name := "bench", desc := "(I)I" } : Jvm.MethodName) ({ cls := "PeacockLawnsModel", name := "bench", desc := "(I)I" } : Jvm.MethodName)) ∈ lw_all := lw_g (lw_at lw_m10 122 rfl) rfl
theorem q2362 : (Jvm.Cond.code ({ cls := "PeacockLawnsModel", name := "bench", desc := "(I)I" } : Jvm.MethodName) prog_14_method_57_code (3 : Nat) (Option.some Jvm.ClassFile.FieldType.int)) ∈ lw_all := lw_g (lw_at lw_m10 123 rfl) rfl
theorem q2364 : (Jvm.Cond.instanceMethod ({ cls := "PeacockLawnsModel", name := "seat", desc := "(II)I" } : Jvm.MethodName)) ∈ lw_all := lw_g (lw_at lw_m10 125 rfl) rfl
theorem q2365 : (Jvm.Cond.selects "PeacockLawnsModel" ({ cls := "PeacockLawnsModel", name := "seat", desc := "(II)I" } : Jvm.MethodName) ({ cls := "PeacockLawnsModel", name := "seat", desc := "(II)I" } : Jvm.MethodName)) ∈ lw_all := lw_g (lw_at lw_m10 126 rfl) rfl
theorem q2366 : (Jvm.Cond.code ({ cls := "PeacockLawnsModel", name := "seat", desc := "(II)I" } : Jvm.MethodName) prog_14_method_58_code (4 : Nat) (Option.some Jvm.ClassFile.FieldType.int)) ∈ lw_all := lw_g (lw_at lw_m10 127 rfl) rfl
theorem q2367 : (Jvm.Cond.methodLink "PeacockLawnsModel" (179 : Nat) ({ cls := "PeacockLawnsModel", name := "isBench", desc := "(I)Z" } : Jvm.MethodName)) ∈ lw_all := lw_g (lw_at lw_m10 128 rfl) rfl
theorem q2368 : (Jvm.Cond.privateMethod ({ cls := "PeacockLawnsModel", name := "isBench", desc := "(I)Z" } : Jvm.MethodName)) ∈ lw_tbl := lw_at lw_m10 129 rfl
theorem q2369 : (Jvm.Cond.instanceMethod ({ cls := "PeacockLawnsModel", name := "isBench", desc := "(I)Z" } : Jvm.MethodName)) ∈ lw_all := lw_g (lw_at lw_m10 130 rfl) rfl
theorem q2370 : (Jvm.Cond.code ({ cls := "PeacockLawnsModel", name := "isBench", desc := "(I)Z" } : Jvm.MethodName) prog_14_method_55_code (2 : Nat) (Option.some Jvm.ClassFile.FieldType.boolean)) ∈ lw_all := lw_g (lw_at lw_m10 131 rfl) rfl
theorem q2371 : (Jvm.Cond.methodLink "PeacockLawnsModel" (182 : Nat) ({ cls := "PeacockLawnsModel", name := "ofBench", desc := "(II)I" } : Jvm.MethodName)) ∈ lw_all := lw_g (lw_at lw_m10 132 rfl) rfl
theorem q2372 : (Jvm.Cond.privateMethod ({ cls := "PeacockLawnsModel", name := "ofBench", desc := "(II)I" } : Jvm.MethodName)) ∈ lw_tbl := lw_at lw_m10 133 rfl
theorem q2373 : (Jvm.Cond.instanceMethod ({ cls := "PeacockLawnsModel", name := "ofBench", desc := "(II)I" } : Jvm.MethodName)) ∈ lw_all := lw_g (lw_at lw_m10 134 rfl) rfl
theorem q2374 : (Jvm.Cond.code ({ cls := "PeacockLawnsModel", name := "ofBench", desc := "(II)I" } : Jvm.MethodName) prog_14_method_56_code (3 : Nat) (Option.some Jvm.ClassFile.FieldType.int)) ∈ lw_all := lw_g (lw_at lw_m10 135 rfl) rfl
theorem q2376 : (Jvm.Cond.instanceMethod ({ cls := "PeacockLawnsModel", name := "benchOf", desc := "(II)I" } : Jvm.MethodName)) ∈ lw_all := lw_g (lw_at lw_m10 137 rfl) rfl
theorem q2377 : (Jvm.Cond.selects "PeacockLawnsModel" ({ cls := "PeacockLawnsModel", name := "benchOf", desc := "(II)I" } : Jvm.MethodName) ({ cls := "PeacockLawnsModel", name := "benchOf", desc := "(II)I" } : Jvm.MethodName)) ∈ lw_all := lw_g (lw_at lw_m10 138 rfl) rfl
theorem q2378 : (Jvm.Cond.code ({ cls := "PeacockLawnsModel", name := "benchOf", desc := "(II)I" } : Jvm.MethodName) prog_14_method_59_code (3 : Nat) (Option.some Jvm.ClassFile.FieldType.int)) ∈ lw_all := lw_g (lw_at lw_m10 139 rfl) rfl
theorem q2380 : (Jvm.Cond.instanceMethod ({ cls := "PeacockLawnsModel", name := "pass", desc := "(I)I" } : Jvm.MethodName)) ∈ lw_all := lw_g (lw_at lw_m10 141 rfl) rfl
theorem q2381 : (Jvm.Cond.selects "PeacockLawnsModel" ({ cls := "PeacockLawnsModel", name := "pass", desc := "(I)I" } : Jvm.MethodName) ({ cls := "PeacockLawnsModel", name := "pass", desc := "(I)I" } : Jvm.MethodName)) ∈ lw_all := lw_g (lw_at lw_m10 142 rfl) rfl
theorem q2382 : (Jvm.Cond.code ({ cls := "PeacockLawnsModel", name := "pass", desc := "(I)I" } : Jvm.MethodName) prog_14_method_70_code (4 : Nat) (Option.some Jvm.ClassFile.FieldType.int)) ∈ lw_all := lw_g (lw_at lw_m10 143 rfl) rfl
theorem q2383 : (Jvm.Cond.methodLink "PeacockLawnsModel" (216 : Nat) ({ cls := "PeacockLawnsModel", name := "goDay", desc := "()V" } : Jvm.MethodName)) ∈ lw_all := lw_g (lw_at lw_m10 144 rfl) rfl
theorem q2384 : (Jvm.Cond.privateMethod ({ cls := "PeacockLawnsModel", name := "goDay", desc := "()V" } : Jvm.MethodName)) ∈ lw_tbl := lw_at lw_m10 145 rfl
theorem q2385 : (Jvm.Cond.instanceMethod ({ cls := "PeacockLawnsModel", name := "goDay", desc := "()V" } : Jvm.MethodName)) ∈ lw_all := lw_g (lw_at lw_m10 146 rfl) rfl
theorem q2386 : (Jvm.Cond.code ({ cls := "PeacockLawnsModel", name := "goDay", desc := "()V" } : Jvm.MethodName) prog_14_method_69_code (3 : Nat) (Option.none : Option Jvm.ClassFile.FieldType)) ∈ lw_all := lw_g (lw_at lw_m10 147 rfl) rfl
theorem q2387 : (Jvm.Cond.methodLink "PeacockLawnsModel" (198 : Nat) ({ cls := "PeacockLawnsModel", name := "grow", desc := "()V" } : Jvm.MethodName)) ∈ lw_all := lw_g (lw_at lw_m10 148 rfl) rfl
theorem q2388 : (Jvm.Cond.privateMethod ({ cls := "PeacockLawnsModel", name := "grow", desc := "()V" } : Jvm.MethodName)) ∈ lw_tbl := lw_at lw_m10 149 rfl
theorem q2389 : (Jvm.Cond.instanceMethod ({ cls := "PeacockLawnsModel", name := "grow", desc := "()V" } : Jvm.MethodName)) ∈ lw_all := lw_g (lw_at lw_m10 150 rfl) rfl
theorem q2390 : (Jvm.Cond.code ({ cls := "PeacockLawnsModel", name := "grow", desc := "()V" } : Jvm.MethodName) prog_14_method_61_code (3 : Nat) (Option.none : Option Jvm.ClassFile.FieldType)) ∈ lw_all := lw_g (lw_at lw_m10 151 rfl) rfl
theorem q2391 : (Jvm.Cond.methodLink "PeacockLawnsModel" (185 : Nat) ({ cls := "PeacockLawnsModel", name := "month", desc := "()I" } : Jvm.MethodName)) ∈ lw_all := lw_g (lw_at lw_m10 152 rfl) rfl
theorem q2392 : (Jvm.Cond.privateMethod ({ cls := "PeacockLawnsModel", name := "month", desc := "()I" } : Jvm.MethodName)) ∈ lw_tbl := lw_at lw_m10 153 rfl
theorem q2393 : (Jvm.Cond.instanceMethod ({ cls := "PeacockLawnsModel", name := "month", desc := "()I" } : Jvm.MethodName)) ∈ lw_all := lw_g (lw_at lw_m10 154 rfl) rfl
theorem q2394 : (Jvm.Cond.code ({ cls := "PeacockLawnsModel", name := "month", desc := "()I" } : Jvm.MethodName) prog_14_method_60_code (1 : Nat) (Option.some Jvm.ClassFile.FieldType.int)) ∈ lw_all := lw_g (lw_at lw_m10 155 rfl) rfl
theorem q2395 : (Jvm.Cond.methodLink "PeacockLawnsModel" (201 : Nat) ({ cls := "PeacockLawnsModel", name := "moult", desc := "()V" } : Jvm.MethodName)) ∈ lw_all := lw_g (lw_at lw_m10 156 rfl) rfl
theorem q2396 : (Jvm.Cond.privateMethod ({ cls := "PeacockLawnsModel", name := "moult", desc := "()V" } : Jvm.MethodName)) ∈ lw_tbl := lw_at lw_m10 157 rfl
theorem q2397 : (Jvm.Cond.instanceMethod ({ cls := "PeacockLawnsModel", name := "moult", desc := "()V" } : Jvm.MethodName)) ∈ lw_all := lw_g (lw_at lw_m10 158 rfl) rfl
theorem q2398 : (Jvm.Cond.code ({ cls := "PeacockLawnsModel", name := "moult", desc := "()V" } : Jvm.MethodName) prog_14_method_63_code (2 : Nat) (Option.none : Option Jvm.ClassFile.FieldType)) ∈ lw_all := lw_g (lw_at lw_m10 159 rfl) rfl
theorem q2399 : (Jvm.Cond.methodLink "PeacockLawnsModel" (189 : Nat) ({ cls := "PeacockLawnsModel", name := "shedOf", desc := "(I)V" } : Jvm.MethodName)) ∈ lw_all := lw_g (lw_at lw_m10 160 rfl) rfl
theorem q2400 : (Jvm.Cond.privateMethod ({ cls := "PeacockLawnsModel", name := "shedOf", desc := "(I)V" } : Jvm.MethodName)) ∈ lw_tbl := lw_at lw_m10 161 rfl
theorem q2401 : (Jvm.Cond.instanceMethod ({ cls := "PeacockLawnsModel", name := "shedOf", desc := "(I)V" } : Jvm.MethodName)) ∈ lw_all := lw_g (lw_at lw_m10 162 rfl) rfl
theorem q2402 : (Jvm.Cond.code ({ cls := "PeacockLawnsModel", name := "shedOf", desc := "(I)V" } : Jvm.MethodName) prog_14_method_62_code (3 : Nat) (Option.none : Option Jvm.ClassFile.FieldType)) ∈ lw_all := lw_g (lw_at lw_m10 163 rfl) rfl
theorem q2403 : (Jvm.Cond.methodLink "PeacockLawnsModel" (204 : Nat) ({ cls := "PeacockLawnsModel", name := "visit", desc := "(I)V" } : Jvm.MethodName)) ∈ lw_all := lw_g (lw_at lw_m10 164 rfl) rfl
theorem q2404 : (Jvm.Cond.privateMethod ({ cls := "PeacockLawnsModel", name := "visit", desc := "(I)V" } : Jvm.MethodName)) ∈ lw_tbl := lw_at lw_m10 165 rfl
theorem q2405 : (Jvm.Cond.instanceMethod ({ cls := "PeacockLawnsModel", name := "visit", desc := "(I)V" } : Jvm.MethodName)) ∈ lw_all := lw_g (lw_at lw_m10 166 rfl) rfl
theorem q2406 : (Jvm.Cond.code ({ cls := "PeacockLawnsModel", name := "visit", desc := "(I)V" } : Jvm.MethodName) prog_14_method_64_code (4 : Nat) (Option.none : Option Jvm.ClassFile.FieldType)) ∈ lw_all := lw_g (lw_at lw_m10 167 rfl) rfl
theorem q2407 : (Jvm.Cond.methodLink "PeacockLawnsModel" (207 : Nat) ({ cls := "PeacockLawnsModel", name := "sitAll", desc := "()V" } : Jvm.MethodName)) ∈ lw_all := lw_g (lw_at lw_m10 168 rfl) rfl
theorem q2408 : (Jvm.Cond.privateMethod ({ cls := "PeacockLawnsModel", name := "sitAll", desc := "()V" } : Jvm.MethodName)) ∈ lw_tbl := lw_at lw_m10 169 rfl
theorem q2409 : (Jvm.Cond.instanceMethod ({ cls := "PeacockLawnsModel", name := "sitAll", desc := "()V" } : Jvm.MethodName)) ∈ lw_all := lw_g (lw_at lw_m10 170 rfl) rfl
theorem q2410 : (Jvm.Cond.code ({ cls := "PeacockLawnsModel", name := "sitAll", desc := "()V" } : Jvm.MethodName) prog_14_method_66_code (3 : Nat) (Option.none : Option Jvm.ClassFile.FieldType)) ∈ lw_all := lw_g (lw_at lw_m10 171 rfl) rfl
theorem q2411 : (Jvm.Cond.methodLink "PeacockLawnsModel" (195 : Nat) ({ cls := "PeacockLawnsModel", name := "hatch", desc := "(I)V" } : Jvm.MethodName)) ∈ lw_all := lw_g (lw_at lw_m10 172 rfl) rfl
theorem q2412 : (Jvm.Cond.privateMethod ({ cls := "PeacockLawnsModel", name := "hatch", desc := "(I)V" } : Jvm.MethodName)) ∈ lw_tbl := lw_at lw_m10 173 rfl
theorem q2413 : (Jvm.Cond.instanceMethod ({ cls := "PeacockLawnsModel", name := "hatch", desc := "(I)V" } : Jvm.MethodName)) ∈ lw_all := lw_g (lw_at lw_m10 174 rfl) rfl
theorem q2414 : (Jvm.Cond.code ({ cls := "PeacockLawnsModel", name := "hatch", desc := "(I)V" } : Jvm.MethodName) prog_14_method_65_code (4 : Nat) (Option.none : Option Jvm.ClassFile.FieldType)) ∈ lw_all := lw_g (lw_at lw_m10 175 rfl) rfl
theorem q2415 : (Jvm.Cond.methodLink "PeacockLawnsModel" (210 : Nat) ({ cls := "PeacockLawnsModel", name := "prowl", desc := "()V" } : Jvm.MethodName)) ∈ lw_all := lw_g (lw_at lw_m10 176 rfl) rfl
theorem q2416 : (Jvm.Cond.privateMethod ({ cls := "PeacockLawnsModel", name := "prowl", desc := "()V" } : Jvm.MethodName)) ∈ lw_tbl := lw_at lw_m10 177 rfl
theorem q2417 : (Jvm.Cond.instanceMethod ({ cls := "PeacockLawnsModel", name := "prowl", desc := "()V" } : Jvm.MethodName)) ∈ lw_all := lw_g (lw_at lw_m10 178 rfl) rfl
theorem q2418 : (Jvm.Cond.code ({ cls := "PeacockLawnsModel", name := "prowl", desc := "()V" } : Jvm.MethodName) prog_14_method_67_code (2 : Nat) (Option.none : Option Jvm.ClassFile.FieldType)) ∈ lw_all := lw_g (lw_at lw_m10 179 rfl) rfl
theorem q2419 : (Jvm.Cond.methodLink "PeacockLawnsModel" (213 : Nat) ({ cls := "PeacockLawnsModel", name := "voices", desc := "()I" } : Jvm.MethodName)) ∈ lw_all := lw_g (lw_at lw_m10 180 rfl) rfl
theorem q2420 : (Jvm.Cond.privateMethod ({ cls := "PeacockLawnsModel", name := "voices", desc := "()I" } : Jvm.MethodName)) ∈ lw_tbl := lw_at lw_m10 181 rfl
theorem q2421 : (Jvm.Cond.instanceMethod ({ cls := "PeacockLawnsModel", name := "voices", desc := "()I" } : Jvm.MethodName)) ∈ lw_all := lw_g (lw_at lw_m10 182 rfl) rfl
theorem q2422 : (Jvm.Cond.code ({ cls := "PeacockLawnsModel", name := "voices", desc := "()I" } : Jvm.MethodName) prog_14_method_68_code (5 : Nat) (Option.some Jvm.ClassFile.FieldType.int)) ∈ lw_all := lw_g (lw_at lw_m10 183 rfl) rfl
theorem q2424 : (Jvm.Cond.instanceMethod ({ cls := "PeacockLawnsModel", name := "hatchesIn", desc := "(I)I" } : Jvm.MethodName)) ∈ lw_all := lw_g (lw_at lw_m10 185 rfl) rfl
theorem q2425 : (Jvm.Cond.selects "PeacockLawnsModel" ({ cls := "PeacockLawnsModel", name := "hatchesIn", desc := "(I)I" } : Jvm.MethodName) ({ cls := "PeacockLawnsModel", name := "hatchesIn", desc := "(I)I" } : Jvm.MethodName)) ∈ lw_all := lw_g (lw_at lw_m10 186 rfl) rfl
theorem q2426 : (Jvm.Cond.code ({ cls := "PeacockLawnsModel", name := "hatchesIn", desc := "(I)I" } : Jvm.MethodName) prog_14_method_71_code (4 : Nat) (Option.some Jvm.ClassFile.FieldType.int)) ∈ lw_all := lw_g (lw_at lw_m10 187 rfl) rfl
theorem q2428 : (Jvm.Cond.instanceMethod ({ cls := "PeacockLawnsModel", name := "wouldShed", desc := "(I)I" } : Jvm.MethodName)) ∈ lw_all := lw_g (lw_at lw_m10 189 rfl) rfl
theorem q2429 : (Jvm.Cond.selects "PeacockLawnsModel" ({ cls := "PeacockLawnsModel", name := "wouldShed", desc := "(I)I" } : Jvm.MethodName) ({ cls := "PeacockLawnsModel", name := "wouldShed", desc := "(I)I" } : Jvm.MethodName)) ∈ lw_all := lw_g (lw_at lw_m10 190 rfl) rfl
theorem q2430 : (Jvm.Cond.code ({ cls := "PeacockLawnsModel", name := "wouldShed", desc := "(I)I" } : Jvm.MethodName) prog_14_method_72_code (3 : Nat) (Option.some Jvm.ClassFile.FieldType.int)) ∈ lw_all := lw_g (lw_at lw_m10 191 rfl) rfl
theorem q2432 : (Jvm.Cond.instanceMethod ({ cls := "PeacockLawnsModel", name := "noise", desc := "()I" } : Jvm.MethodName)) ∈ lw_all := lw_g (lw_at lw_m10 193 rfl) rfl
theorem q2433 : (Jvm.Cond.selects "PeacockLawnsModel" ({ cls := "PeacockLawnsModel", name := "noise", desc := "()I" } : Jvm.MethodName) ({ cls := "PeacockLawnsModel", name := "noise", desc := "()I" } : Jvm.MethodName)) ∈ lw_all := lw_g (lw_at lw_m10 194 rfl) rfl
theorem q2434 : (Jvm.Cond.code ({ cls := "PeacockLawnsModel", name := "noise", desc := "()I" } : Jvm.MethodName) prog_14_method_73_code (1 : Nat) (Option.some Jvm.ClassFile.FieldType.int)) ∈ lw_all := lw_g (lw_at lw_m10 195 rfl) rfl
theorem q2436 : (Jvm.Cond.instanceMethod ({ cls := "PeacockLawnsModel", name := "line", desc := "(I)I" } : Jvm.MethodName)) ∈ lw_all := lw_g (lw_at lw_m10 197 rfl) rfl
theorem q2437 : (Jvm.Cond.selects "PeacockLawnsModel" ({ cls := "PeacockLawnsModel", name := "line", desc := "(I)I" } : Jvm.MethodName) ({ cls := "PeacockLawnsModel", name := "line", desc := "(I)I" } : Jvm.MethodName)) ∈ lw_all := lw_g (lw_at lw_m10 198 rfl) rfl
theorem q2438 : (Jvm.Cond.code ({ cls := "PeacockLawnsModel", name := "line", desc := "(I)I" } : Jvm.MethodName) prog_14_method_76_code (3 : Nat) (Option.some Jvm.ClassFile.FieldType.int)) ∈ lw_all := lw_g (lw_at lw_m10 199 rfl) rfl
theorem q2439 : (Jvm.Cond.methodLink "PeacockLawnsModel" (231 : Nat) ({ cls := "PeacockLawnsModel", name := "writeNumber", desc := "(I)V" } : Jvm.MethodName)) ∈ lw_all := lw_g (lw_at lw_m10 200 rfl) rfl
theorem q2440 : (Jvm.Cond.privateMethod ({ cls := "PeacockLawnsModel", name := "writeNumber", desc := "(I)V" } : Jvm.MethodName)) ∈ lw_tbl := lw_at lw_m10 201 rfl
theorem q2441 : (Jvm.Cond.instanceMethod ({ cls := "PeacockLawnsModel", name := "writeNumber", desc := "(I)V" } : Jvm.MethodName)) ∈ lw_all := lw_g (lw_at lw_m10 202 rfl) rfl
theorem q2442 : (Jvm.Cond.code ({ cls := "PeacockLawnsModel", name := "writeNumber", desc := "(I)V" } : Jvm.MethodName) prog_14_method_75_code (2 : Nat) (Option.none : Option Jvm.ClassFile.FieldType)) ∈ lw_all := lw_g (lw_at lw_m10 203 rfl) rfl
theorem q2443 : (Jvm.Cond.stringRef "PeacockLawnsModel" (234 : Nat) ":") ∈ lw_tbl := lw_at lw_m10 204 rfl
theorem q2444 : (Jvm.Cond.methodLink "PeacockLawnsModel" (236 : Nat) ({ cls := "PeacockLawnsModel", name := "write", desc := "(Ljava/lang/String;)V" } : Jvm.MethodName)) ∈ lw_all := lw_g (lw_at lw_m10 205 rfl) rfl
theorem q2445 : (Jvm.Cond.privateMethod ({ cls := "PeacockLawnsModel", name := "write", desc := "(Ljava/lang/String;)V" } : Jvm.MethodName)) ∈ lw_tbl := lw_at lw_m10 206 rfl
theorem q2446 : (Jvm.Cond.instanceMethod ({ cls := "PeacockLawnsModel", name := "write", desc := "(Ljava/lang/String;)V" } : Jvm.MethodName)) ∈ lw_all := lw_g (lw_at lw_m10 207 rfl) rfl
theorem q2447 : (Jvm.Cond.code ({ cls := "PeacockLawnsModel", name := "write", desc := "(Ljava/lang/String;)V" } : Jvm.MethodName) prog_14_method_74_code (3 : Nat) (Option.none : Option Jvm.ClassFile.FieldType)) ∈ lw_all := lw_g (lw_at lw_m10 208 rfl) rfl
theorem q2448 : (Jvm.Cond.methodLink "PeacockLawnsModel" (219 : Nat) ({ cls := "java/lang/String", name := "length", desc := "()I" } : Jvm.MethodName)) ∈ lw_all := lw_g (lw_at lw_m10 209 rfl) rfl
theorem q2449 : (Jvm.Cond.methodLink "PeacockLawnsModel" (227 : Nat) ({ cls := "java/lang/String", name := "charAt", desc := "(I)C" } : Jvm.MethodName)) ∈ lw_all := lw_g (lw_at lw_m10 210 rfl) rfl
theorem q2450 : (Jvm.Cond.stringRef "PeacockLawnsModel" (240 : Nat) " h") ∈ lw_tbl := lw_at lw_m10 211 rfl
theorem q2451 : (Jvm.Cond.stringRef "PeacockLawnsModel" (242 : Nat) " c") ∈ lw_tbl := lw_at lw_m10 212 rfl
theorem q2452 : (Jvm.Cond.stringRef "PeacockLawnsModel" (244 : Nat) "+") ∈ lw_tbl := lw_at lw_m10 213 rfl
theorem q2453 : (Jvm.Cond.stringRef "PeacockLawnsModel" (246 : Nat) " f") ∈ lw_tbl := lw_at lw_m10 214 rfl
theorem q2454 : (Jvm.Cond.stringRef "PeacockLawnsModel" (248 : Nat) " fox") ∈ lw_tbl := lw_at lw_m10 215 rfl
theorem q2455 : (Jvm.Cond.stringRef "PeacockLawnsModel" (250 : Nat) "") ∈ lw_tbl := lw_at lw_m10 216 rfl
theorem q2457 : (Jvm.Cond.instanceMethod ({ cls := "PeacockLawnsModel", name := "character", desc := "(I)C" } : Jvm.MethodName)) ∈ lw_all := lw_g (lw_at lw_m10 218 rfl) rfl
theorem q2458 : (Jvm.Cond.selects "PeacockLawnsModel" ({ cls := "PeacockLawnsModel", name := "character", desc := "(I)C" } : Jvm.MethodName) ({ cls := "PeacockLawnsModel", name := "character", desc := "(I)C" } : Jvm.MethodName)) ∈ lw_all := lw_g (lw_at lw_m10 219 rfl) rfl
theorem q2459 : (Jvm.Cond.code ({ cls := "PeacockLawnsModel", name := "character", desc := "(I)C" } : Jvm.MethodName) prog_14_method_77_code (2 : Nat) (Option.some Jvm.ClassFile.FieldType.char)) ∈ lw_all := lw_g (lw_at lw_m10 220 rfl) rfl
theorem q2461 : (Jvm.Cond.instanceMethod ({ cls := "PeacockLawnsModel", name := "number", desc := "(I)I" } : Jvm.MethodName)) ∈ lw_all := lw_g (lw_at lw_m10 222 rfl) rfl
theorem q2462 : (Jvm.Cond.selects "PeacockLawnsModel" ({ cls := "PeacockLawnsModel", name := "number", desc := "(I)I" } : Jvm.MethodName) ({ cls := "PeacockLawnsModel", name := "number", desc := "(I)I" } : Jvm.MethodName)) ∈ lw_all := lw_g (lw_at lw_m10 223 rfl) rfl
theorem q2463 : (Jvm.Cond.code ({ cls := "PeacockLawnsModel", name := "number", desc := "(I)I" } : Jvm.MethodName) prog_14_method_83_code (2 : Nat) (Option.some Jvm.ClassFile.FieldType.int)) ∈ lw_all := lw_g (lw_at lw_m10 224 rfl) rfl
theorem q2464 : (Jvm.Cond.methodLink "PeacockLawnsModel" (257 : Nat) ({ cls := "PeacockLawnsModel", name := "hens", desc := "()I" } : Jvm.MethodName)) ∈ lw_all := lw_g (lw_at lw_m10 225 rfl) rfl
theorem q2465 : (Jvm.Cond.privateMethod ({ cls := "PeacockLawnsModel", name := "hens", desc := "()I" } : Jvm.MethodName)) ∈ lw_tbl := lw_at lw_m10 226 rfl
theorem q2466 : (Jvm.Cond.instanceMethod ({ cls := "PeacockLawnsModel", name := "hens", desc := "()I" } : Jvm.MethodName)) ∈ lw_all := lw_g (lw_at lw_m10 227 rfl) rfl
theorem q2467 : (Jvm.Cond.code ({ cls := "PeacockLawnsModel", name := "hens", desc := "()I" } : Jvm.MethodName) prog_14_method_79_code (1 : Nat) (Option.some Jvm.ClassFile.FieldType.int)) ∈ lw_all := lw_g (lw_at lw_m10 228 rfl) rfl
theorem q2468 : (Jvm.Cond.methodLink "PeacockLawnsModel" (252 : Nat) ({ cls := "PeacockLawnsModel", name := "sum", desc := "(III)I" } : Jvm.MethodName)) ∈ lw_all := lw_g (lw_at lw_m10 229 rfl) rfl
theorem q2469 : (Jvm.Cond.privateMethod ({ cls := "PeacockLawnsModel", name := "sum", desc := "(III)I" } : Jvm.MethodName)) ∈ lw_tbl := lw_at lw_m10 230 rfl
theorem q2470 : (Jvm.Cond.instanceMethod ({ cls := "PeacockLawnsModel", name := "sum", desc := "(III)I" } : Jvm.MethodName)) ∈ lw_all := lw_g (lw_at lw_m10 231 rfl) rfl
theorem q2471 : (Jvm.Cond.code ({ cls := "PeacockLawnsModel", name := "sum", desc := "(III)I" } : Jvm.MethodName) prog_14_method_78_code (6 : Nat) (Option.some Jvm.ClassFile.FieldType.int)) ∈ lw_all := lw_g (lw_at lw_m10 232 rfl) rfl
theorem q2472 : (Jvm.Cond.methodLink "PeacockLawnsModel" (260 : Nat) ({ cls := "PeacockLawnsModel", name := "eggs", desc := "()I" } : Jvm.MethodName)) ∈ lw_all := lw_g (lw_at lw_m10 233 rfl) rfl
theorem q2473 : (Jvm.Cond.privateMethod ({ cls := "PeacockLawnsModel", name := "eggs", desc := "()I" } : Jvm.MethodName)) ∈ lw_tbl := lw_at lw_m10 234 rfl
theorem q2474 : (Jvm.Cond.instanceMethod ({ cls := "PeacockLawnsModel", name := "eggs", desc := "()I" } : Jvm.MethodName)) ∈ lw_all := lw_g (lw_at lw_m10 235 rfl) rfl
theorem q2475 : (Jvm.Cond.code ({ cls := "PeacockLawnsModel", name := "eggs", desc := "()I" } : Jvm.MethodName) prog_14_method_80_code (3 : Nat) (Option.some Jvm.ClassFile.FieldType.int)) ∈ lw_all := lw_g (lw_at lw_m10 236 rfl) rfl
theorem q2476 : (Jvm.Cond.methodLink "PeacockLawnsModel" (263 : Nat) ({ cls := "PeacockLawnsModel", name := "lying", desc := "()I" } : Jvm.MethodName)) ∈ lw_all := lw_g (lw_at lw_m10 237 rfl) rfl
theorem q2477 : (Jvm.Cond.privateMethod ({ cls := "PeacockLawnsModel", name := "lying", desc := "()I" } : Jvm.MethodName)) ∈ lw_tbl := lw_at lw_m10 238 rfl
theorem q2478 : (Jvm.Cond.instanceMethod ({ cls := "PeacockLawnsModel", name := "lying", desc := "()I" } : Jvm.MethodName)) ∈ lw_all := lw_g (lw_at lw_m10 239 rfl) rfl
theorem q2479 : (Jvm.Cond.code ({ cls := "PeacockLawnsModel", name := "lying", desc := "()I" } : Jvm.MethodName) prog_14_method_81_code (1 : Nat) (Option.some Jvm.ClassFile.FieldType.int)) ∈ lw_all := lw_g (lw_at lw_m11 0 rfl) rfl
theorem q2480 : (Jvm.Cond.methodLink "PeacockLawnsModel" (266 : Nat) ({ cls := "PeacockLawnsModel", name := "otherNumber", desc := "(I)I" } : Jvm.MethodName)) ∈ lw_all := lw_g (lw_at lw_m11 1 rfl) rfl
theorem q2481 : (Jvm.Cond.privateMethod ({ cls := "PeacockLawnsModel", name := "otherNumber", desc := "(I)I" } : Jvm.MethodName)) ∈ lw_tbl := lw_at lw_m11 2 rfl
theorem q2482 : (Jvm.Cond.instanceMethod ({ cls := "PeacockLawnsModel", name := "otherNumber", desc := "(I)I" } : Jvm.MethodName)) ∈ lw_all := lw_g (lw_at lw_m11 3 rfl) rfl
theorem q2483 : (Jvm.Cond.code ({ cls := "PeacockLawnsModel", name := "otherNumber", desc := "(I)I" } : Jvm.MethodName) prog_14_method_82_code (2 : Nat) (Option.some Jvm.ClassFile.FieldType.int)) ∈ lw_all := lw_g (lw_at lw_m11 4 rfl) rfl
theorem q2485 : (Jvm.Cond.instanceMethod ({ cls := "PeacockLawnsModel", name := "shedAgain", desc := "()I" } : Jvm.MethodName)) ∈ lw_all := lw_g (lw_at lw_m11 6 rfl) rfl
theorem q2486 : (Jvm.Cond.selects "PeacockLawnsModel" ({ cls := "PeacockLawnsModel", name := "shedAgain", desc := "()I" } : Jvm.MethodName) ({ cls := "PeacockLawnsModel", name := "shedAgain", desc := "()I" } : Jvm.MethodName)) ∈ lw_all := lw_g (lw_at lw_m11 7 rfl) rfl
theorem q2487 : (Jvm.Cond.code ({ cls := "PeacockLawnsModel", name := "shedAgain", desc := "()I" } : Jvm.MethodName) prog_14_method_84_code (1 : Nat) (Option.some Jvm.ClassFile.FieldType.int)) ∈ lw_all := lw_g (lw_at lw_m11 8 rfl) rfl
theorem q2489 : (Jvm.Cond.instanceMethod ({ cls := "PeacockLawnsModel", name := "meanHeight", desc := "()D" } : Jvm.MethodName)) ∈ lw_all := lw_g (lw_at lw_m11 10 rfl) rfl
theorem q2490 : (Jvm.Cond.selects "PeacockLawnsModel" ({ cls := "PeacockLawnsModel", name := "meanHeight", desc := "()D" } : Jvm.MethodName) ({ cls := "PeacockLawnsModel", name := "meanHeight", desc := "()D" } : Jvm.MethodName)) ∈ lw_all := lw_g (lw_at lw_m11 11 rfl) rfl
theorem q2491 : (Jvm.Cond.code ({ cls := "PeacockLawnsModel", name := "meanHeight", desc := "()D" } : Jvm.MethodName) prog_14_method_85_code (1 : Nat) (Option.some Jvm.ClassFile.FieldType.double)) ∈ lw_all := lw_g (lw_at lw_m11 12 rfl) rfl
theorem q2492 : (Jvm.Cond.constantDouble "PeacockLawnsModel" (269 : Nat) (4622945017495814144 : UInt64)) ∈ lw_all := lw_g (lw_at lw_m11 13 rfl) rfl
theorem q2494 : (Jvm.Cond.instanceMethod ({ cls := "PeacockLawnsModel", name := "foundShare", desc := "()F" } : Jvm.MethodName)) ∈ lw_all := lw_g (lw_at lw_m11 15 rfl) rfl
theorem q2495 : (Jvm.Cond.selects "PeacockLawnsModel" ({ cls := "PeacockLawnsModel", name := "foundShare", desc := "()F" } : Jvm.MethodName) ({ cls := "PeacockLawnsModel", name := "foundShare", desc := "()F" } : Jvm.MethodName)) ∈ lw_all := lw_g (lw_at lw_m11 16 rfl) rfl
theorem q2496 : (Jvm.Cond.code ({ cls := "PeacockLawnsModel", name := "foundShare", desc := "()F" } : Jvm.MethodName) prog_14_method_86_code (1 : Nat) (Option.some Jvm.ClassFile.FieldType.float)) ∈ lw_all := lw_g (lw_at lw_m11 17 rfl) rfl
theorem q2498 : (Jvm.Cond.instanceMethod ({ cls := "PeacockLawnsModel", name := "feed", desc := "(C)I" } : Jvm.MethodName)) ∈ lw_all := lw_g (lw_at lw_m11 19 rfl) rfl
theorem q2499 : (Jvm.Cond.selects "PeacockLawnsModel" ({ cls := "PeacockLawnsModel", name := "feed", desc := "(C)I" } : Jvm.MethodName) ({ cls := "PeacockLawnsModel", name := "feed", desc := "(C)I" } : Jvm.MethodName)) ∈ lw_all := lw_g (lw_at lw_m11 20 rfl) rfl
theorem q2500 : (Jvm.Cond.code ({ cls := "PeacockLawnsModel", name := "feed", desc := "(C)I" } : Jvm.MethodName) prog_14_method_87_code (2 : Nat) (Option.some Jvm.ClassFile.FieldType.int)) ∈ lw_all := lw_g (lw_at lw_m11 21 rfl) rfl
theorem q2502 : (Jvm.Cond.instanceMethod ({ cls := "PeacockLawnsModel", name := "read", desc := "()I" } : Jvm.MethodName)) ∈ lw_all := lw_g (lw_at lw_m11 23 rfl) rfl
theorem q2503 : (Jvm.Cond.selects "PeacockLawnsModel" ({ cls := "PeacockLawnsModel", name := "read", desc := "()I" } : Jvm.MethodName) ({ cls := "PeacockLawnsModel", name := "read", desc := "()I" } : Jvm.MethodName)) ∈ lw_all := lw_g (lw_at lw_m11 24 rfl) rfl
theorem q2504 : (Jvm.Cond.code ({ cls := "PeacockLawnsModel", name := "read", desc := "()I" } : Jvm.MethodName) prog_14_method_98_code (5 : Nat) (Option.some Jvm.ClassFile.FieldType.int)) ∈ lw_all := lw_g (lw_at lw_m11 25 rfl) rfl
theorem q2505 : (Jvm.Cond.methodLink "PeacockLawnsModel" (347 : Nat) ({ cls := "PeacockLawnsModel", name := "countCommands", desc := "()I" } : Jvm.MethodName)) ∈ lw_all := lw_g (lw_at lw_m11 26 rfl) rfl
theorem q2506 : (Jvm.Cond.privateMethod ({ cls := "PeacockLawnsModel", name := "countCommands", desc := "()I" } : Jvm.MethodName)) ∈ lw_tbl := lw_at lw_m11 27 rfl
theorem q2507 : (Jvm.Cond.instanceMethod ({ cls := "PeacockLawnsModel", name := "countCommands", desc := "()I" } : Jvm.MethodName)) ∈ lw_all := lw_g (lw_at lw_m11 28 rfl) rfl
theorem q2508 : (Jvm.Cond.code ({ cls := "PeacockLawnsModel", name := "countCommands", desc := "()I" } : Jvm.MethodName) prog_14_method_95_code (2 : Nat) (Option.some Jvm.ClassFile.FieldType.int)) ∈ lw_all := lw_g (lw_at lw_m11 29 rfl) rfl
theorem q2509 : (Jvm.Cond.methodLink "PeacockLawnsModel" (326 : Nat) ({ cls := "PeacockLawnsModel", name := "readCommand", desc := "()V" } : Jvm.MethodName)) ∈ lw_all := lw_g (lw_at lw_m11 30 rfl) rfl
theorem q2510 : (Jvm.Cond.privateMethod ({ cls := "PeacockLawnsModel", name := "readCommand", desc := "()V" } : Jvm.MethodName)) ∈ lw_tbl := lw_at lw_m11 31 rfl
theorem q2511 : (Jvm.Cond.instanceMethod ({ cls := "PeacockLawnsModel", name := "readCommand", desc := "()V" } : Jvm.MethodName)) ∈ lw_all := lw_g (lw_at lw_m11 32 rfl) rfl
theorem q2512 : (Jvm.Cond.code ({ cls := "PeacockLawnsModel", name := "readCommand", desc := "()V" } : Jvm.MethodName) prog_14_method_94_code (3 : Nat) (Option.none : Option Jvm.ClassFile.FieldType)) ∈ lw_all := lw_g (lw_at lw_m11 33 rfl) rfl
theorem q2513 : (Jvm.Cond.methodLink "PeacockLawnsModel" (302 : Nat) ({ cls := "PeacockLawnsModel", name := "kindHere", desc := "()C" } : Jvm.MethodName)) ∈ lw_all := lw_g (lw_at lw_m11 34 rfl) rfl
theorem q2514 : (Jvm.Cond.privateMethod ({ cls := "PeacockLawnsModel", name := "kindHere", desc := "()C" } : Jvm.MethodName)) ∈ lw_tbl := lw_at lw_m11 35 rfl
theorem q2515 : (Jvm.Cond.instanceMethod ({ cls := "PeacockLawnsModel", name := "kindHere", desc := "()C" } : Jvm.MethodName)) ∈ lw_all := lw_g (lw_at lw_m11 36 rfl) rfl
theorem q2516 : (Jvm.Cond.code ({ cls := "PeacockLawnsModel", name := "kindHere", desc := "()C" } : Jvm.MethodName) prog_14_method_92_code (2 : Nat) (Option.some Jvm.ClassFile.FieldType.char)) ∈ lw_all := lw_g (lw_at lw_m11 37 rfl) rfl
theorem q2517 : (Jvm.Cond.methodLink "PeacockLawnsModel" (285 : Nat) ({ cls := "PeacockLawnsModel", name := "signAt", desc := "(I)C" } : Jvm.MethodName)) ∈ lw_all := lw_g (lw_at lw_m11 38 rfl) rfl
theorem q2518 : (Jvm.Cond.privateMethod ({ cls := "PeacockLawnsModel", name := "signAt", desc := "(I)C" } : Jvm.MethodName)) ∈ lw_tbl := lw_at lw_m11 39 rfl
theorem q2519 : (Jvm.Cond.instanceMethod ({ cls := "PeacockLawnsModel", name := "signAt", desc := "(I)C" } : Jvm.MethodName)) ∈ lw_all := lw_g (lw_at lw_m11 40 rfl) rfl
theorem q2520 : (Jvm.Cond.code ({ cls := "PeacockLawnsModel", name := "signAt", desc := "(I)C" } : Jvm.MethodName) prog_14_method_91_code (2 : Nat) (Option.some Jvm.ClassFile.FieldType.char)) ∈ lw_all := lw_g (lw_at lw_m11 41 rfl) rfl
theorem q2521 : (Jvm.Cond.methodLink "PeacockLawnsModel" (310 : Nat) ({ cls := "PeacockLawnsModel", name := "wordOf", desc := "(C)Ljava/lang/String;" } : Jvm.MethodName)) ∈ lw_all := lw_g (lw_at lw_m11 42 rfl) rfl
theorem q2522 : (Jvm.Cond.static ({ cls := "PeacockLawnsModel", name := "wordOf", desc := "(C)Ljava/lang/String;" } : Jvm.MethodName)) ∈ lw_all := lw_g (lw_at lw_m11 43 rfl) rfl
theorem q2523 : (Jvm.Cond.code ({ cls := "PeacockLawnsModel", name := "wordOf", desc := "(C)Ljava/lang/String;" } : Jvm.MethodName) prog_14_method_93_code (1 : Nat) (Option.some (Jvm.ClassFile.FieldType.object "java/lang/String"))) ∈ lw_all := lw_g (lw_at lw_m11 44 rfl) rfl
theorem q2524 : (Jvm.Cond.stringRef "PeacockLawnsModel" (288 : Nat) "walk") ∈ lw_tbl := lw_at lw_m11 45 rfl
theorem q2525 : (Jvm.Cond.stringRef "PeacockLawnsModel" (290 : Nat) "shear") ∈ lw_tbl := lw_at lw_m11 46 rfl
theorem q2526 : (Jvm.Cond.stringRef "PeacockLawnsModel" (292 : Nat) "find") ∈ lw_tbl := lw_at lw_m11 47 rfl
theorem q2527 : (Jvm.Cond.stringRef "PeacockLawnsModel" (294 : Nat) "sell") ∈ lw_tbl := lw_at lw_m11 48 rfl
theorem q2528 : (Jvm.Cond.stringRef "PeacockLawnsModel" (296 : Nat) "lay") ∈ lw_tbl := lw_at lw_m11 49 rfl
theorem q2529 : (Jvm.Cond.stringRef "PeacockLawnsModel" (298 : Nat) "seat") ∈ lw_tbl := lw_at lw_m11 50 rfl
theorem q2530 : (Jvm.Cond.stringRef "PeacockLawnsModel" (300 : Nat) "days") ∈ lw_tbl := lw_at lw_m11 51 rfl
theorem q2531 : (Jvm.Cond.methodLink "PeacockLawnsModel" (281 : Nat) ({ cls := "PeacockLawnsModel", name := "must", desc := "(C)V" } : Jvm.MethodName)) ∈ lw_all := lw_g (lw_at lw_m11 52 rfl) rfl
theorem q2532 : (Jvm.Cond.privateMethod ({ cls := "PeacockLawnsModel", name := "must", desc := "(C)V" } : Jvm.MethodName)) ∈ lw_tbl := lw_at lw_m11 53 rfl
theorem q2533 : (Jvm.Cond.instanceMethod ({ cls := "PeacockLawnsModel", name := "must", desc := "(C)V" } : Jvm.MethodName)) ∈ lw_all := lw_g (lw_at lw_m11 54 rfl) rfl
theorem q2534 : (Jvm.Cond.code ({ cls := "PeacockLawnsModel", name := "must", desc := "(C)V" } : Jvm.MethodName) prog_14_method_89_code (2 : Nat) (Option.none : Option Jvm.ClassFile.FieldType)) ∈ lw_all := lw_g (lw_at lw_m11 55 rfl) rfl
theorem q2535 : (Jvm.Cond.methodLink "PeacockLawnsModel" (277 : Nat) ({ cls := "PeacockLawnsModel", name := "sees", desc := "(CC)Z" } : Jvm.MethodName)) ∈ lw_all := lw_g (lw_at lw_m11 56 rfl) rfl
theorem q2536 : (Jvm.Cond.privateMethod ({ cls := "PeacockLawnsModel", name := "sees", desc := "(CC)Z" } : Jvm.MethodName)) ∈ lw_tbl := lw_at lw_m11 57 rfl
theorem q2537 : (Jvm.Cond.instanceMethod ({ cls := "PeacockLawnsModel", name := "sees", desc := "(CC)Z" } : Jvm.MethodName)) ∈ lw_all := lw_g (lw_at lw_m11 58 rfl) rfl
theorem q2538 : (Jvm.Cond.code ({ cls := "PeacockLawnsModel", name := "sees", desc := "(CC)Z" } : Jvm.MethodName) prog_14_method_88_code (3 : Nat) (Option.some Jvm.ClassFile.FieldType.boolean)) ∈ lw_all := lw_g (lw_at lw_m11 59 rfl) rfl
theorem q2539 : (Jvm.Cond.methodLink "PeacockLawnsModel" (314 : Nat) ({ cls := "PeacockLawnsModel", name := "readNumber", desc := "(I)I" } : Jvm.MethodName)) ∈ lw_all := lw_g (lw_at lw_m11 60 rfl) rfl
theorem q2540 : (Jvm.Cond.privateMethod ({ cls := "PeacockLawnsModel", name := "readNumber", desc := "(I)I" } : Jvm.MethodName)) ∈ lw_tbl := lw_at lw_m11 61 rfl
theorem q2541 : (Jvm.Cond.instanceMethod ({ cls := "PeacockLawnsModel", name := "readNumber", desc := "(I)I" } : Jvm.MethodName)) ∈ lw_all := lw_g (lw_at lw_m11 62 rfl) rfl
theorem q2542 : (Jvm.Cond.code ({ cls := "PeacockLawnsModel", name := "readNumber", desc := "(I)I" } : Jvm.MethodName) prog_14_method_90_code (4 : Nat) (Option.some Jvm.ClassFile.FieldType.int)) ∈ lw_all := lw_g (lw_at lw_m11 63 rfl) rfl
theorem q2543 : (Jvm.Cond.methodLink "PeacockLawnsModel" (350 : Nat) ({ cls := "PeacockLawnsModel", name := "carryOut", desc := "()I" } : Jvm.MethodName)) ∈ lw_all := lw_g (lw_at lw_m11 64 rfl) rfl
theorem q2544 : (Jvm.Cond.privateMethod ({ cls := "PeacockLawnsModel", name := "carryOut", desc := "()I" } : Jvm.MethodName)) ∈ lw_tbl := lw_at lw_m11 65 rfl
theorem q2545 : (Jvm.Cond.instanceMethod ({ cls := "PeacockLawnsModel", name := "carryOut", desc := "()I" } : Jvm.MethodName)) ∈ lw_all := lw_g (lw_at lw_m11 66 rfl) rfl
theorem q2546 : (Jvm.Cond.code ({ cls := "PeacockLawnsModel", name := "carryOut", desc := "()I" } : Jvm.MethodName) prog_14_method_96_code (1 : Nat) (Option.some Jvm.ClassFile.FieldType.int)) ∈ lw_all := lw_g (lw_at lw_m11 67 rfl) rfl
theorem q2547 : (Jvm.Cond.methodLink "PeacockLawnsModel" (329 : Nat) ({ cls := "PeacockLawnsModel", name := "walk", desc := "(II)I" } : Jvm.MethodName)) ∈ lw_all := lw_g (lw_at lw_m11 68 rfl) rfl
theorem q2548 : (Jvm.Cond.methodLink "PeacockLawnsModel" (331 : Nat) ({ cls := "PeacockLawnsModel", name := "shear", desc := "(III)I" } : Jvm.MethodName)) ∈ lw_all := lw_g (lw_at lw_m11 69 rfl) rfl
theorem q2549 : (Jvm.Cond.methodLink "PeacockLawnsModel" (333 : Nat) ({ cls := "PeacockLawnsModel", name := "find", desc := "(I)I" } : Jvm.MethodName)) ∈ lw_all := lw_g (lw_at lw_m11 70 rfl) rfl
theorem q2550 : (Jvm.Cond.methodLink "PeacockLawnsModel" (335 : Nat) ({ cls := "PeacockLawnsModel", name := "sell", desc := "(I)I" } : Jvm.MethodName)) ∈ lw_all := lw_g (lw_at lw_m11 71 rfl) rfl
theorem q2551 : (Jvm.Cond.methodLink "PeacockLawnsModel" (337 : Nat) ({ cls := "PeacockLawnsModel", name := "lay", desc := "(I)I" } : Jvm.MethodName)) ∈ lw_all := lw_g (lw_at lw_m11 72 rfl) rfl
theorem q2552 : (Jvm.Cond.methodLink "PeacockLawnsModel" (339 : Nat) ({ cls := "PeacockLawnsModel", name := "seat", desc := "(II)I" } : Jvm.MethodName)) ∈ lw_all := lw_g (lw_at lw_m11 73 rfl) rfl
theorem q2553 : (Jvm.Cond.methodLink "PeacockLawnsModel" (341 : Nat) ({ cls := "PeacockLawnsModel", name := "pass", desc := "(I)I" } : Jvm.MethodName)) ∈ lw_all := lw_g (lw_at lw_m11 74 rfl) rfl
theorem q2554 : (Jvm.Cond.methodLink "PeacockLawnsModel" (353 : Nat) ({ cls := "PeacockLawnsModel", name := "refuseText", desc := "(IZ)V" } : Jvm.MethodName)) ∈ lw_all := lw_g (lw_at lw_m11 75 rfl) rfl
theorem q2555 : (Jvm.Cond.privateMethod ({ cls := "PeacockLawnsModel", name := "refuseText", desc := "(IZ)V" } : Jvm.MethodName)) ∈ lw_tbl := lw_at lw_m11 76 rfl
theorem q2556 : (Jvm.Cond.instanceMethod ({ cls := "PeacockLawnsModel", name := "refuseText", desc := "(IZ)V" } : Jvm.MethodName)) ∈ lw_all := lw_g (lw_at lw_m11 77 rfl) rfl
theorem q2557 : (Jvm.Cond.code ({ cls := "PeacockLawnsModel", name := "refuseText", desc := "(IZ)V" } : Jvm.MethodName) prog_14_method_97_code (5 : Nat) (Option.none : Option Jvm.ClassFile.FieldType)) ∈ lw_all := lw_g (lw_at lw_m11 78 rfl) rfl
theorem q2559 : (Jvm.Cond.instanceMethod ({ cls := "PeacockLawnsModel", name := "faultPosition", desc := "()I" } : Jvm.MethodName)) ∈ lw_all := lw_g (lw_at lw_m11 80 rfl) rfl
theorem q2560 : (Jvm.Cond.selects "PeacockLawnsModel" ({ cls := "PeacockLawnsModel", name := "faultPosition", desc := "()I" } : Jvm.MethodName) ({ cls := "PeacockLawnsModel", name := "faultPosition", desc := "()I" } : Jvm.MethodName)) ∈ lw_all := lw_g (lw_at lw_m11 81 rfl) rfl
theorem q2561 : (Jvm.Cond.code ({ cls := "PeacockLawnsModel", name := "faultPosition", desc := "()I" } : Jvm.MethodName) prog_14_method_99_code (1 : Nat) (Option.some Jvm.ClassFile.FieldType.int)) ∈ lw_all := lw_g (lw_at lw_m11 82 rfl) rfl
theorem q2563 : (Jvm.Cond.instanceMethod ({ cls := "PeacockLawnsModel", name := "refusal", desc := "(IZ)I" } : Jvm.MethodName)) ∈ lw_all := lw_g (lw_at lw_m11 84 rfl) rfl
theorem q2564 : (Jvm.Cond.selects "PeacockLawnsModel" ({ cls := "PeacockLawnsModel", name := "refusal", desc := "(IZ)I" } : Jvm.MethodName) ({ cls := "PeacockLawnsModel", name := "refusal", desc := "(IZ)I" } : Jvm.MethodName)) ∈ lw_all := lw_g (lw_at lw_m11 85 rfl) rfl
theorem q2565 : (Jvm.Cond.code ({ cls := "PeacockLawnsModel", name := "refusal", desc := "(IZ)I" } : Jvm.MethodName) prog_14_method_100_code (3 : Nat) (Option.some Jvm.ClassFile.FieldType.int)) ∈ lw_all := lw_g (lw_at lw_m11 86 rfl) rfl
theorem q2567 : (Jvm.Cond.instanceMethod ({ cls := "PeacockLawnsModel", name := "undo", desc := "()I" } : Jvm.MethodName)) ∈ lw_all := lw_g (lw_at lw_m11 88 rfl) rfl
theorem q2568 : (Jvm.Cond.selects "PeacockLawnsModel" ({ cls := "PeacockLawnsModel", name := "undo", desc := "()I" } : Jvm.MethodName) ({ cls := "PeacockLawnsModel", name := "undo", desc := "()I" } : Jvm.MethodName)) ∈ lw_all := lw_g (lw_at lw_m11 89 rfl) rfl
theorem q2569 : (Jvm.Cond.code ({ cls := "PeacockLawnsModel", name := "undo", desc := "()I" } : Jvm.MethodName) prog_14_method_101_code (1 : Nat) (Option.some Jvm.ClassFile.FieldType.int)) ∈ lw_all := lw_g (lw_at lw_m11 90 rfl) rfl
theorem q2571 : (Jvm.Cond.instanceMethod ({ cls := "PeacockLawnsModel", name := "saveSnapshot", desc := "()I" } : Jvm.MethodName)) ∈ lw_all := lw_g (lw_at lw_m11 92 rfl) rfl
theorem q2572 : (Jvm.Cond.selects "PeacockLawnsModel" ({ cls := "PeacockLawnsModel", name := "saveSnapshot", desc := "()I" } : Jvm.MethodName) ({ cls := "PeacockLawnsModel", name := "saveSnapshot", desc := "()I" } : Jvm.MethodName)) ∈ lw_all := lw_g (lw_at lw_m11 93 rfl) rfl
theorem q2573 : (Jvm.Cond.code ({ cls := "PeacockLawnsModel", name := "saveSnapshot", desc := "()I" } : Jvm.MethodName) prog_14_method_102_code (1 : Nat) (Option.some Jvm.ClassFile.FieldType.int)) ∈ lw_all := lw_g (lw_at lw_m11 94 rfl) rfl
theorem q2575 : (Jvm.Cond.instanceMethod ({ cls := "PeacockLawnsModel", name := "restoreSnapshot", desc := "()I" } : Jvm.MethodName)) ∈ lw_all := lw_g (lw_at lw_m11 96 rfl) rfl
theorem q2576 : (Jvm.Cond.selects "PeacockLawnsModel" ({ cls := "PeacockLawnsModel", name := "restoreSnapshot", desc := "()I" } : Jvm.MethodName) ({ cls := "PeacockLawnsModel", name := "restoreSnapshot", desc := "()I" } : Jvm.MethodName)) ∈ lw_all := lw_g (lw_at lw_m11 97 rfl) rfl
theorem q2577 : (Jvm.Cond.code ({ cls := "PeacockLawnsModel", name := "restoreSnapshot", desc := "()I" } : Jvm.MethodName) prog_14_method_103_code (1 : Nat) (Option.some Jvm.ClassFile.FieldType.int)) ∈ lw_all := lw_g (lw_at lw_m11 98 rfl) rfl
theorem q2603 : (Jvm.Cond.castable "PeacockLawnsModel" "java/lang/Object") ∈ lw_tbl := lw_at lw_m11 124 rfl
theorem in_X3 : ∀ w ∈ wsX30, w ∈ lw_all := lw_in wsX30 [2100, 2102, 2104, 2106, 2108, 2110, 2112, 2114, 2116, 2118, 2120, 2122, 2124, 2126, 2128, 2130, 2132, 2134, 2136, 2138, 2140, 2142, 2144, 2146, 2148, 2150, 2152] (by decide +kernel) (by decide +kernel)
