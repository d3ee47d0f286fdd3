/-! PeacockLawns$Garden -/
set_option maxRecDepth 100000
def RX2 : String := "PeacockLawns$Garden"
def TX2 : u_T := fun k => match k with
  | 0 => ("PeacockLawns$Garden", "birds", "Ljava/util/List;", true)
  | 1 => ("PeacockLawns$Garden", "keepers", "Ljava/util/List;", true)
  | 2 => ("PeacockLawns$Garden", "benches", "Ljava/util/List;", true)
  | 3 => ("PeacockLawns$Garden", "hedges", "[I", true)
  | 4 => ("PeacockLawns$Garden", "lying", "[I", true)
  | 5 => ("PeacockLawns$Garden", "day", "I", false)
  | 6 => ("PeacockLawns$Garden", "fox", "I", false)
  | 7 => ("PeacockLawns$Garden", "coins", "I", false)
  | 8 => ("PeacockLawns$Garden", "shed", "I", false)
  | 9 => ("PeacockLawns$Garden", "store", "I", false)
  | 10 => ("PeacockLawns$Garden", "taken", "I", false)
  | 11 => ("PeacockLawns$Garden", "sold", "I", false)
  | 12 => ("PeacockLawns$Garden", "hatched", "I", false)
  | 13 => ("PeacockLawns$Garden", "eaten", "I", false)
  | _ => ("PeacockLawns$Garden", "fines", "I", false)
def tyX2 : Nat → FieldType := fun k => match k with
  | 0 => .object "java/util/List"
  | 1 => .object "java/util/List"
  | 2 => .object "java/util/List"
  | 3 => .array .int
  | 4 => .array .int
  | 5 => .int
  | 6 => .int
  | 7 => .int
  | 8 => .int
  | 9 => .int
  | 10 => .int
  | 11 => .int
  | 12 => .int
  | 13 => .int
  | _ => .int
abbrev wsX20 : List Cond := u_ws RX2 TX2 15
set_option maxRecDepth 100000 in
theorem nmX2 : ∀ a, a < 15 → ∀ b, b < 15 → a ≠ b → (TX2 a).2.1 ≠ (TX2 b).2.1 := by decide +kernel
set_option maxRecDepth 100000 in
theorem tyX2_ok : ∀ k, k < 15 → parseFieldDescriptor (TX2 k).2.2.1 = some (tyX2 k) := by decide +kernel
abbrev cX2_init : ByteArray := prog_6_method_1_code
def yX2_init : MethodName := ⟨RX2, "<init>", "()V"⟩
def dkwX2_init_3 : List UInt8 := [181, 0, 41, 177]
abbrev dktX2_init_3 : List UInt8 := dkwX2_init_3 ++ []
def dkwX2_init_2 : List UInt8 := [16, 9, 188, 10, 181, 0, 28, 42, 180, 0, 24, 8, 184, 0, 31, 42, 7, 181, 0, 37, 42, 16, 30]
abbrev dktX2_init_2 : List UInt8 := dkwX2_init_2 ++ dktX2_init_3
def dkwX2_init_1 : List UInt8 := [181, 0, 18, 42, 187, 0, 9, 89, 183, 0, 11, 181, 0, 21, 42, 16, 12, 188, 10, 181, 0, 24, 42]
abbrev dktX2_init_1 : List UInt8 := dkwX2_init_1 ++ dktX2_init_2
def dkwX2_init_0 : List UInt8 := [42, 183, 0, 3, 42, 187, 0, 9, 89, 183, 0, 11, 181, 0, 12, 42, 187, 0, 9, 89, 183, 0, 11]
abbrev dktX2_init_0 : List UInt8 := dkwX2_init_0 ++ dktX2_init_1
theorem dksX2_init_0 : cX2_init.data.toList.drop 0 = dktX2_init_0 := by decide +kernel
theorem dksX2_init_1 : cX2_init.data.toList.drop 23 = dktX2_init_1 := dk_seg dksX2_init_0 23 rfl rfl
theorem dksX2_init_2 : cX2_init.data.toList.drop 46 = dktX2_init_2 := dk_seg dksX2_init_1 23 rfl rfl
theorem dksX2_init_3 : cX2_init.data.toList.drop 69 = dktX2_init_3 := dk_seg dksX2_init_2 23 rfl rfl
theorem dX2_init_0 : decode cX2_init 0 = .ok (.aload_n 0, 1) := dk_42 (dk_at dksX2_init_0 0 rfl rfl)
theorem dX2_init_1 : decode cX2_init 1 = .ok (.invokespecial 3, 3) := dk_183 0 3 (dk_at dksX2_init_0 1 rfl rfl)
theorem dX2_init_4 : decode cX2_init 4 = .ok (.aload_n 0, 1) := dk_42 (dk_at dksX2_init_0 4 rfl rfl)
theorem dX2_init_5 : decode cX2_init 5 = .ok (.new 9, 3) := dk_187 0 9 (dk_at dksX2_init_0 5 rfl rfl)
theorem dX2_init_8 : decode cX2_init 8 = .ok (.dup, 1) := dk_89 (dk_at dksX2_init_0 8 rfl rfl)
theorem dX2_init_9 : decode cX2_init 9 = .ok (.invokespecial 11, 3) := dk_183 0 11 (dk_at dksX2_init_0 9 rfl rfl)
theorem dX2_init_12 : decode cX2_init 12 = .ok (.putfield 12, 3) := dk_181 0 12 (dk_at dksX2_init_0 12 rfl rfl)
theorem dX2_init_15 : decode cX2_init 15 = .ok (.aload_n 0, 1) := dk_42 (dk_at dksX2_init_0 15 rfl rfl)
theorem dX2_init_16 : decode cX2_init 16 = .ok (.new 9, 3) := dk_187 0 9 (dk_at dksX2_init_0 16 rfl rfl)
theorem dX2_init_19 : decode cX2_init 19 = .ok (.dup, 1) := dk_89 (dk_at dksX2_init_0 19 rfl rfl)
theorem dX2_init_20 : decode cX2_init 20 = .ok (.invokespecial 11, 3) := dk_183 0 11 (dk_at dksX2_init_0 20 rfl rfl)
theorem dX2_init_23 : decode cX2_init 23 = .ok (.putfield 18, 3) := dk_181 0 18 (dk_at dksX2_init_1 0 rfl rfl)
theorem dX2_init_26 : decode cX2_init 26 = .ok (.aload_n 0, 1) := dk_42 (dk_at dksX2_init_1 3 rfl rfl)
theorem dX2_init_27 : decode cX2_init 27 = .ok (.new 9, 3) := dk_187 0 9 (dk_at dksX2_init_1 4 rfl rfl)
theorem dX2_init_30 : decode cX2_init 30 = .ok (.dup, 1) := dk_89 (dk_at dksX2_init_1 7 rfl rfl)
theorem dX2_init_31 : decode cX2_init 31 = .ok (.invokespecial 11, 3) := dk_183 0 11 (dk_at dksX2_init_1 8 rfl rfl)
theorem dX2_init_34 : decode cX2_init 34 = .ok (.putfield 21, 3) := dk_181 0 21 (dk_at dksX2_init_1 11 rfl rfl)
theorem dX2_init_37 : decode cX2_init 37 = .ok (.aload_n 0, 1) := dk_42 (dk_at dksX2_init_1 14 rfl rfl)
theorem dX2_init_38 : decode cX2_init 38 = .ok (.bipush 12, 2) := dk_16 12 (dk_at dksX2_init_1 15 rfl rfl)
theorem dX2_init_40 : decode cX2_init 40 = .ok (.newarray .int, 2) := dk_188_10 (dk_at dksX2_init_1 17 rfl rfl)
theorem dX2_init_42 : decode cX2_init 42 = .ok (.putfield 24, 3) := dk_181 0 24 (dk_at dksX2_init_1 19 rfl rfl)
theorem dX2_init_45 : decode cX2_init 45 = .ok (.aload_n 0, 1) := dk_42 (dk_at dksX2_init_1 22 rfl rfl)
theorem dX2_init_46 : decode cX2_init 46 = .ok (.bipush 9, 2) := dk_16 9 (dk_at dksX2_init_2 0 rfl rfl)
theorem dX2_init_48 : decode cX2_init 48 = .ok (.newarray .int, 2) := dk_188_10 (dk_at dksX2_init_2 2 rfl rfl)
theorem dX2_init_50 : decode cX2_init 50 = .ok (.putfield 28, 3) := dk_181 0 28 (dk_at dksX2_init_2 4 rfl rfl)
theorem dX2_init_53 : decode cX2_init 53 = .ok (.aload_n 0, 1) := dk_42 (dk_at dksX2_init_2 7 rfl rfl)
theorem dX2_init_54 : decode cX2_init 54 = .ok (.getfield 24, 3) := dk_180 0 24 (dk_at dksX2_init_2 8 rfl rfl)
theorem dX2_init_57 : decode cX2_init 57 = .ok (.iconst 5, 1) := dk_8 (dk_at dksX2_init_2 11 rfl rfl)
theorem dX2_init_58 : decode cX2_init 58 = .ok (.invokestatic 31, 3) := dk_184 0 31 (dk_at dksX2_init_2 12 rfl rfl)
theorem dX2_init_61 : decode cX2_init 61 = .ok (.aload_n 0, 1) := dk_42 (dk_at dksX2_init_2 15 rfl rfl)
theorem dX2_init_62 : decode cX2_init 62 = .ok (.iconst 4, 1) := dk_7 (dk_at dksX2_init_2 16 rfl rfl)
theorem dX2_init_63 : decode cX2_init 63 = .ok (.putfield 37, 3) := dk_181 0 37 (dk_at dksX2_init_2 17 rfl rfl)
theorem dX2_init_66 : decode cX2_init 66 = .ok (.aload_n 0, 1) := dk_42 (dk_at dksX2_init_2 20 rfl rfl)
theorem dX2_init_67 : decode cX2_init 67 = .ok (.bipush 30, 2) := dk_16 30 (dk_at dksX2_init_2 21 rfl rfl)
theorem dX2_init_69 : decode cX2_init 69 = .ok (.putfield 41, 3) := dk_181 0 41 (dk_at dksX2_init_3 0 rfl rfl)
theorem dX2_init_72 : decode cX2_init 72 = .ok (.return_, 1) := dk_177 (dk_at dksX2_init_3 3 rfl rfl)
abbrev cX2_noise : ByteArray := prog_6_method_19_code
def yX2_noise : MethodName := ⟨RX2, "noise", "()I"⟩
def dkwX2_noise_0 : List UInt8 := [42, 186, 0, 200, 0, 0, 182, 0, 203, 172]
abbrev dktX2_noise_0 : List UInt8 := dkwX2_noise_0 ++ []
theorem dksX2_noise_0 : cX2_noise.data.toList.drop 0 = dktX2_noise_0 := by decide +kernel
theorem dX2_noise_0 : decode cX2_noise 0 = .ok (.aload_n 0, 1) := dk_42 (dk_at dksX2_noise_0 0 rfl rfl)
theorem dX2_noise_1 : decode cX2_noise 1 = .ok (.invokedynamic 200, 5) := by decide +kernel
theorem dX2_noise_6 : decode cX2_noise 6 = .ok (.invokevirtual 203, 3) := dk_182 0 203 (dk_at dksX2_noise_0 6 rfl rfl)
theorem dX2_noise_9 : decode cX2_noise 9 = .ok (.ireturn, 1) := dk_172 (dk_at dksX2_noise_0 9 rfl rfl)
abbrev cX2_lambda_noise_0 : ByteArray := prog_6_method_34_code
def yX2_lambda_noise_0 : MethodName := ⟨RX2, "lambda$noise$0", "(LPeacockLawns$Bird;)I"⟩
def dkwX2_lambda_noise_0_1 : List UInt8 := [42, 180, 0, 181, 167, 0, 4, 3, 172]
abbrev dktX2_lambda_noise_0_1 : List UInt8 := dkwX2_lambda_noise_0_1 ++ []
def dkwX2_lambda_noise_0_0 : List UInt8 := [42, 182, 0, 243, 153, 0, 27, 42, 180, 0, 195, 5, 112, 154, 0, 18, 42, 180, 0, 195, 7, 159, 0, 10]
abbrev dktX2_lambda_noise_0_0 : List UInt8 := dkwX2_lambda_noise_0_0 ++ dktX2_lambda_noise_0_1
theorem dksX2_lambda_noise_0_0 : cX2_lambda_noise_0.data.toList.drop 0 = dktX2_lambda_noise_0_0 := by decide +kernel
theorem dksX2_lambda_noise_0_1 : cX2_lambda_noise_0.data.toList.drop 24 = dktX2_lambda_noise_0_1 := dk_seg dksX2_lambda_noise_0_0 24 rfl rfl
theorem dX2_lambda_noise_0_0 : decode cX2_lambda_noise_0 0 = .ok (.aload_n 0, 1) := dk_42 (dk_at dksX2_lambda_noise_0_0 0 rfl rfl)
theorem dX2_lambda_noise_0_1 : decode cX2_lambda_noise_0 1 = .ok (.invokevirtual 243, 3) := dk_182 0 243 (dk_at dksX2_lambda_noise_0_0 1 rfl rfl)
theorem dX2_lambda_noise_0_4 : decode cX2_lambda_noise_0 4 = .ok (.ifCond .eq 27, 3) := dk_153 0 27 (dk_at dksX2_lambda_noise_0_0 4 rfl rfl)
theorem dX2_lambda_noise_0_7 : decode cX2_lambda_noise_0 7 = .ok (.aload_n 0, 1) := dk_42 (dk_at dksX2_lambda_noise_0_0 7 rfl rfl)
theorem dX2_lambda_noise_0_8 : decode cX2_lambda_noise_0 8 = .ok (.getfield 195, 3) := dk_180 0 195 (dk_at dksX2_lambda_noise_0_0 8 rfl rfl)
theorem dX2_lambda_noise_0_11 : decode cX2_lambda_noise_0 11 = .ok (.iconst 2, 1) := dk_5 (dk_at dksX2_lambda_noise_0_0 11 rfl rfl)
theorem dX2_lambda_noise_0_12 : decode cX2_lambda_noise_0 12 = .ok (.irem, 1) := dk_112 (dk_at dksX2_lambda_noise_0_0 12 rfl rfl)
theorem dX2_lambda_noise_0_13 : decode cX2_lambda_noise_0 13 = .ok (.ifCond .ne 18, 3) := dk_154 0 18 (dk_at dksX2_lambda_noise_0_0 13 rfl rfl)
theorem dX2_lambda_noise_0_16 : decode cX2_lambda_noise_0 16 = .ok (.aload_n 0, 1) := dk_42 (dk_at dksX2_lambda_noise_0_0 16 rfl rfl)
theorem dX2_lambda_noise_0_17 : decode cX2_lambda_noise_0 17 = .ok (.getfield 195, 3) := dk_180 0 195 (dk_at dksX2_lambda_noise_0_0 17 rfl rfl)
theorem dX2_lambda_noise_0_20 : decode cX2_lambda_noise_0 20 = .ok (.iconst 4, 1) := dk_7 (dk_at dksX2_lambda_noise_0_0 20 rfl rfl)
theorem dX2_lambda_noise_0_21 : decode cX2_lambda_noise_0 21 = .ok (.if_icmp .eq 10, 3) := dk_159 0 10 (dk_at dksX2_lambda_noise_0_0 21 rfl rfl)
theorem dX2_lambda_noise_0_24 : decode cX2_lambda_noise_0 24 = .ok (.aload_n 0, 1) := dk_42 (dk_at dksX2_lambda_noise_0_1 0 rfl rfl)
theorem dX2_lambda_noise_0_25 : decode cX2_lambda_noise_0 25 = .ok (.getfield 181, 3) := dk_180 0 181 (dk_at dksX2_lambda_noise_0_1 1 rfl rfl)
theorem dX2_lambda_noise_0_28 : decode cX2_lambda_noise_0 28 = .ok (.goto 4, 3) := dk_167 0 4 (dk_at dksX2_lambda_noise_0_1 4 rfl rfl)
theorem dX2_lambda_noise_0_31 : decode cX2_lambda_noise_0 31 = .ok (.iconst 0, 1) := dk_3 (dk_at dksX2_lambda_noise_0_1 7 rfl rfl)
theorem dX2_lambda_noise_0_32 : decode cX2_lambda_noise_0 32 = .ok (.ireturn, 1) := dk_172 (dk_at dksX2_lambda_noise_0_1 8 rfl rfl)
abbrev cX2_sumOf : ByteArray := prog_6_method_13_code
def yX2_sumOf : MethodName := ⟨RX2, "sumOf", "(LPeacockLawns$Part;)I"⟩
def dkwX2_sumOf_2 : List UInt8 := [28, 172]
abbrev dktX2_sumOf_2 : List UInt8 := dkwX2_sumOf_2 ++ []
def dkwX2_sumOf_1 : List UInt8 := [185, 0, 137, 1, 0, 192, 0, 109, 58, 4, 28, 43, 25, 4, 185, 0, 147, 2, 0, 96, 61, 167, 255, 225]
abbrev dktX2_sumOf_1 : List UInt8 := dkwX2_sumOf_1 ++ dktX2_sumOf_2
def dkwX2_sumOf_0 : List UInt8 := [3, 61, 42, 180, 0, 12, 185, 0, 127, 1, 0, 78, 45, 185, 0, 131, 1, 0, 153, 0, 28, 45]
abbrev dktX2_sumOf_0 : List UInt8 := dkwX2_sumOf_0 ++ dktX2_sumOf_1
theorem dksX2_sumOf_0 : cX2_sumOf.data.toList.drop 0 = dktX2_sumOf_0 := by decide +kernel
theorem dksX2_sumOf_1 : cX2_sumOf.data.toList.drop 22 = dktX2_sumOf_1 := dk_seg dksX2_sumOf_0 22 rfl rfl
theorem dksX2_sumOf_2 : cX2_sumOf.data.toList.drop 46 = dktX2_sumOf_2 := dk_seg dksX2_sumOf_1 24 rfl rfl
theorem dX2_sumOf_0 : decode cX2_sumOf 0 = .ok (.iconst 0, 1) := dk_3 (dk_at dksX2_sumOf_0 0 rfl rfl)
theorem dX2_sumOf_1 : decode cX2_sumOf 1 = .ok (.istore_n 2, 1) := dk_61 (dk_at dksX2_sumOf_0 1 rfl rfl)
theorem dX2_sumOf_2 : decode cX2_sumOf 2 = .ok (.aload_n 0, 1) := dk_42 (dk_at dksX2_sumOf_0 2 rfl rfl)
theorem dX2_sumOf_3 : decode cX2_sumOf 3 = .ok (.getfield 12, 3) := dk_180 0 12 (dk_at dksX2_sumOf_0 3 rfl rfl)
theorem dX2_sumOf_6 : decode cX2_sumOf 6 = .ok (.invokeinterface 127 1, 5) := by decide +kernel
theorem dX2_sumOf_11 : decode cX2_sumOf 11 = .ok (.astore_n 3, 1) := dk_78 (dk_at dksX2_sumOf_0 11 rfl rfl)
theorem dX2_sumOf_12 : decode cX2_sumOf 12 = .ok (.aload_n 3, 1) := dk_45 (dk_at dksX2_sumOf_0 12 rfl rfl)
theorem dX2_sumOf_13 : decode cX2_sumOf 13 = .ok (.invokeinterface 131 1, 5) := by decide +kernel
theorem dX2_sumOf_18 : decode cX2_sumOf 18 = .ok (.ifCond .eq 28, 3) := dk_153 0 28 (dk_at dksX2_sumOf_0 18 rfl rfl)
theorem dX2_sumOf_21 : decode cX2_sumOf 21 = .ok (.aload_n 3, 1) := dk_45 (dk_at dksX2_sumOf_0 21 rfl rfl)
theorem dX2_sumOf_22 : decode cX2_sumOf 22 = .ok (.invokeinterface 137 1, 5) := by decide +kernel
theorem dX2_sumOf_27 : decode cX2_sumOf 27 = .ok (.checkcast 109, 3) := dk_192 0 109 (dk_at dksX2_sumOf_1 5 rfl rfl)
theorem dX2_sumOf_30 : decode cX2_sumOf 30 = .ok (.astore 4, 2) := dk_58 4 (dk_at dksX2_sumOf_1 8 rfl rfl)
theorem dX2_sumOf_32 : decode cX2_sumOf 32 = .ok (.iload_n 2, 1) := dk_28 (dk_at dksX2_sumOf_1 10 rfl rfl)
theorem dX2_sumOf_33 : decode cX2_sumOf 33 = .ok (.aload_n 1, 1) := dk_43 (dk_at dksX2_sumOf_1 11 rfl rfl)
theorem dX2_sumOf_34 : decode cX2_sumOf 34 = .ok (.aload 4, 2) := dk_25 4 (dk_at dksX2_sumOf_1 12 rfl rfl)
theorem dX2_sumOf_36 : decode cX2_sumOf 36 = .ok (.invokeinterface 147 2, 5) := by decide +kernel
theorem dX2_sumOf_41 : decode cX2_sumOf 41 = .ok (.iadd, 1) := dk_96 (dk_at dksX2_sumOf_1 19 rfl rfl)
theorem dX2_sumOf_42 : decode cX2_sumOf 42 = .ok (.istore_n 2, 1) := dk_61 (dk_at dksX2_sumOf_1 20 rfl rfl)
theorem dX2_sumOf_43 : decode cX2_sumOf 43 = .ok (.goto (-31), 3) := dk_167 255 225 (dk_at dksX2_sumOf_1 21 rfl rfl)
theorem dX2_sumOf_46 : decode cX2_sumOf 46 = .ok (.iload_n 2, 1) := dk_28 (dk_at dksX2_sumOf_2 0 rfl rfl)
theorem dX2_sumOf_47 : decode cX2_sumOf 47 = .ok (.ireturn, 1) := dk_172 (dk_at dksX2_sumOf_2 1 rfl rfl)
abbrev cX2_init_2 : ByteArray := prog_6_method_2_code
def yX2_init_2 : MethodName := ⟨RX2, "<init>", "(LPeacockLawns$Garden;)V"⟩
def dkwX2_init_2_6 : List UInt8 := [180, 0, 75, 181, 0, 75, 42, 43, 180, 0, 78, 181, 0, 78, 177]
abbrev dktX2_init_2_6 : List UInt8 := dkwX2_init_2_6 ++ []
def dkwX2_init_2_5 : List UInt8 := [180, 0, 66, 181, 0, 66, 42, 43, 180, 0, 69, 181, 0, 69, 42, 43, 180, 0, 72, 181, 0, 72, 42, 43]
abbrev dktX2_init_2_5 : List UInt8 := dkwX2_init_2_5 ++ dktX2_init_2_6
def dkwX2_init_2_4 : List UInt8 := [180, 0, 41, 181, 0, 41, 42, 43, 180, 0, 60, 181, 0, 60, 42, 43, 180, 0, 63, 181, 0, 63, 42, 43]
abbrev dktX2_init_2_4 : List UInt8 := dkwX2_init_2_4 ++ dktX2_init_2_5
def dkwX2_init_2_3 : List UInt8 := [16, 9, 184, 0, 51, 42, 43, 180, 0, 57, 181, 0, 57, 42, 43, 180, 0, 37, 181, 0, 37, 42, 43]
abbrev dktX2_init_2_3 : List UInt8 := dkwX2_init_2_3 ++ dktX2_init_2_4
def dkwX2_init_2_2 : List UInt8 := [180, 0, 24, 3, 42, 180, 0, 24, 3, 16, 12, 184, 0, 51, 43, 180, 0, 28, 3, 42, 180, 0, 28, 3]
abbrev dktX2_init_2_2 : List UInt8 := dkwX2_init_2_2 ++ dktX2_init_2_3
def dkwX2_init_2_1 : List UInt8 := [180, 0, 18, 185, 0, 45, 2, 0, 87, 42, 180, 0, 21, 43, 180, 0, 21, 185, 0, 45, 2, 0, 87, 43]
abbrev dktX2_init_2_1 : List UInt8 := dkwX2_init_2_1 ++ dktX2_init_2_2
def dkwX2_init_2_0 : List UInt8 := [42, 183, 0, 44, 42, 180, 0, 12, 43, 180, 0, 12, 185, 0, 45, 2, 0, 87, 42, 180, 0, 18, 43]
abbrev dktX2_init_2_0 : List UInt8 := dkwX2_init_2_0 ++ dktX2_init_2_1
theorem dksX2_init_2_0 : cX2_init_2.data.toList.drop 0 = dktX2_init_2_0 := by decide +kernel
theorem dksX2_init_2_1 : cX2_init_2.data.toList.drop 23 = dktX2_init_2_1 := dk_seg dksX2_init_2_0 23 rfl rfl
theorem dksX2_init_2_2 : cX2_init_2.data.toList.drop 47 = dktX2_init_2_2 := dk_seg dksX2_init_2_1 24 rfl rfl
theorem dksX2_init_2_3 : cX2_init_2.data.toList.drop 71 = dktX2_init_2_3 := dk_seg dksX2_init_2_2 24 rfl rfl
theorem dksX2_init_2_4 : cX2_init_2.data.toList.drop 94 = dktX2_init_2_4 := dk_seg dksX2_init_2_3 23 rfl rfl
theorem dksX2_init_2_5 : cX2_init_2.data.toList.drop 118 = dktX2_init_2_5 := dk_seg dksX2_init_2_4 24 rfl rfl
theorem dksX2_init_2_6 : cX2_init_2.data.toList.drop 142 = dktX2_init_2_6 := dk_seg dksX2_init_2_5 24 rfl rfl
theorem dX2_init_2_0 : decode cX2_init_2 0 = .ok (.aload_n 0, 1) := dk_42 (dk_at dksX2_init_2_0 0 rfl rfl)
theorem dX2_init_2_1 : decode cX2_init_2 1 = .ok (.invokespecial 44, 3) := dk_183 0 44 (dk_at dksX2_init_2_0 1 rfl rfl)
theorem dX2_init_2_4 : decode cX2_init_2 4 = .ok (.aload_n 0, 1) := dk_42 (dk_at dksX2_init_2_0 4 rfl rfl)
theorem dX2_init_2_5 : decode cX2_init_2 5 = .ok (.getfield 12, 3) := dk_180 0 12 (dk_at dksX2_init_2_0 5 rfl rfl)
theorem dX2_init_2_8 : decode cX2_init_2 8 = .ok (.aload_n 1, 1) := dk_43 (dk_at dksX2_init_2_0 8 rfl rfl)
theorem dX2_init_2_9 : decode cX2_init_2 9 = .ok (.getfield 12, 3) := dk_180 0 12 (dk_at dksX2_init_2_0 9 rfl rfl)
theorem dX2_init_2_12 : decode cX2_init_2 12 = .ok (.invokeinterface 45 2, 5) := by decide +kernel
theorem dX2_init_2_17 : decode cX2_init_2 17 = .ok (.pop, 1) := dk_87 (dk_at dksX2_init_2_0 17 rfl rfl)
theorem dX2_init_2_18 : decode cX2_init_2 18 = .ok (.aload_n 0, 1) := dk_42 (dk_at dksX2_init_2_0 18 rfl rfl)
theorem dX2_init_2_19 : decode cX2_init_2 19 = .ok (.getfield 18, 3) := dk_180 0 18 (dk_at dksX2_init_2_0 19 rfl rfl)
theorem dX2_init_2_22 : decode cX2_init_2 22 = .ok (.aload_n 1, 1) := dk_43 (dk_at dksX2_init_2_0 22 rfl rfl)
theorem dX2_init_2_23 : decode cX2_init_2 23 = .ok (.getfield 18, 3) := dk_180 0 18 (dk_at dksX2_init_2_1 0 rfl rfl)
theorem dX2_init_2_26 : decode cX2_init_2 26 = .ok (.invokeinterface 45 2, 5) := by decide +kernel
theorem dX2_init_2_31 : decode cX2_init_2 31 = .ok (.pop, 1) := dk_87 (dk_at dksX2_init_2_1 8 rfl rfl)
theorem dX2_init_2_32 : decode cX2_init_2 32 = .ok (.aload_n 0, 1) := dk_42 (dk_at dksX2_init_2_1 9 rfl rfl)
theorem dX2_init_2_33 : decode cX2_init_2 33 = .ok (.getfield 21, 3) := dk_180 0 21 (dk_at dksX2_init_2_1 10 rfl rfl)
theorem dX2_init_2_36 : decode cX2_init_2 36 = .ok (.aload_n 1, 1) := dk_43 (dk_at dksX2_init_2_1 13 rfl rfl)
theorem dX2_init_2_37 : decode cX2_init_2 37 = .ok (.getfield 21, 3) := dk_180 0 21 (dk_at dksX2_init_2_1 14 rfl rfl)
theorem dX2_init_2_40 : decode cX2_init_2 40 = .ok (.invokeinterface 45 2, 5) := by decide +kernel
theorem dX2_init_2_45 : decode cX2_init_2 45 = .ok (.pop, 1) := dk_87 (dk_at dksX2_init_2_1 22 rfl rfl)
theorem dX2_init_2_46 : decode cX2_init_2 46 = .ok (.aload_n 1, 1) := dk_43 (dk_at dksX2_init_2_1 23 rfl rfl)
theorem dX2_init_2_47 : decode cX2_init_2 47 = .ok (.getfield 24, 3) := dk_180 0 24 (dk_at dksX2_init_2_2 0 rfl rfl)
theorem dX2_init_2_50 : decode cX2_init_2 50 = .ok (.iconst 0, 1) := dk_3 (dk_at dksX2_init_2_2 3 rfl rfl)
theorem dX2_init_2_51 : decode cX2_init_2 51 = .ok (.aload_n 0, 1) := dk_42 (dk_at dksX2_init_2_2 4 rfl rfl)
theorem dX2_init_2_52 : decode cX2_init_2 52 = .ok (.getfield 24, 3) := dk_180 0 24 (dk_at dksX2_init_2_2 5 rfl rfl)
theorem dX2_init_2_55 : decode cX2_init_2 55 = .ok (.iconst 0, 1) := dk_3 (dk_at dksX2_init_2_2 8 rfl rfl)
theorem dX2_init_2_56 : decode cX2_init_2 56 = .ok (.bipush 12, 2) := dk_16 12 (dk_at dksX2_init_2_2 9 rfl rfl)
theorem dX2_init_2_58 : decode cX2_init_2 58 = .ok (.invokestatic 51, 3) := dk_184 0 51 (dk_at dksX2_init_2_2 11 rfl rfl)
theorem dX2_init_2_61 : decode cX2_init_2 61 = .ok (.aload_n 1, 1) := dk_43 (dk_at dksX2_init_2_2 14 rfl rfl)
theorem dX2_init_2_62 : decode cX2_init_2 62 = .ok (.getfield 28, 3) := dk_180 0 28 (dk_at dksX2_init_2_2 15 rfl rfl)
theorem dX2_init_2_65 : decode cX2_init_2 65 = .ok (.iconst 0, 1) := dk_3 (dk_at dksX2_init_2_2 18 rfl rfl)
theorem dX2_init_2_66 : decode cX2_init_2 66 = .ok (.aload_n 0, 1) := dk_42 (dk_at dksX2_init_2_2 19 rfl rfl)
theorem dX2_init_2_67 : decode cX2_init_2 67 = .ok (.getfield 28, 3) := dk_180 0 28 (dk_at dksX2_init_2_2 20 rfl rfl)
theorem dX2_init_2_70 : decode cX2_init_2 70 = .ok (.iconst 0, 1) := dk_3 (dk_at dksX2_init_2_2 23 rfl rfl)
theorem dX2_init_2_71 : decode cX2_init_2 71 = .ok (.bipush 9, 2) := dk_16 9 (dk_at dksX2_init_2_3 0 rfl rfl)
theorem dX2_init_2_73 : decode cX2_init_2 73 = .ok (.invokestatic 51, 3) := dk_184 0 51 (dk_at dksX2_init_2_3 2 rfl rfl)
theorem dX2_init_2_76 : decode cX2_init_2 76 = .ok (.aload_n 0, 1) := dk_42 (dk_at dksX2_init_2_3 5 rfl rfl)
theorem dX2_init_2_77 : decode cX2_init_2 77 = .ok (.aload_n 1, 1) := dk_43 (dk_at dksX2_init_2_3 6 rfl rfl)
theorem dX2_init_2_78 : decode cX2_init_2 78 = .ok (.getfield 57, 3) := dk_180 0 57 (dk_at dksX2_init_2_3 7 rfl rfl)
theorem dX2_init_2_81 : decode cX2_init_2 81 = .ok (.putfield 57, 3) := dk_181 0 57 (dk_at dksX2_init_2_3 10 rfl rfl)
theorem dX2_init_2_84 : decode cX2_init_2 84 = .ok (.aload_n 0, 1) := dk_42 (dk_at dksX2_init_2_3 13 rfl rfl)
theorem dX2_init_2_85 : decode cX2_init_2 85 = .ok (.aload_n 1, 1) := dk_43 (dk_at dksX2_init_2_3 14 rfl rfl)
theorem dX2_init_2_86 : decode cX2_init_2 86 = .ok (.getfield 37, 3) := dk_180 0 37 (dk_at dksX2_init_2_3 15 rfl rfl)
theorem dX2_init_2_89 : decode cX2_init_2 89 = .ok (.putfield 37, 3) := dk_181 0 37 (dk_at dksX2_init_2_3 18 rfl rfl)
theorem dX2_init_2_92 : decode cX2_init_2 92 = .ok (.aload_n 0, 1) := dk_42 (dk_at dksX2_init_2_3 21 rfl rfl)
theorem dX2_init_2_93 : decode cX2_init_2 93 = .ok (.aload_n 1, 1) := dk_43 (dk_at dksX2_init_2_3 22 rfl rfl)
theorem dX2_init_2_94 : decode cX2_init_2 94 = .ok (.getfield 41, 3) := dk_180 0 41 (dk_at dksX2_init_2_4 0 rfl rfl)
theorem dX2_init_2_97 : decode cX2_init_2 97 = .ok (.putfield 41, 3) := dk_181 0 41 (dk_at dksX2_init_2_4 3 rfl rfl)
theorem dX2_init_2_100 : decode cX2_init_2 100 = .ok (.aload_n 0, 1) := dk_42 (dk_at dksX2_init_2_4 6 rfl rfl)
theorem dX2_init_2_101 : decode cX2_init_2 101 = .ok (.aload_n 1, 1) := dk_43 (dk_at dksX2_init_2_4 7 rfl rfl)
theorem dX2_init_2_102 : decode cX2_init_2 102 = .ok (.getfield 60, 3) := dk_180 0 60 (dk_at dksX2_init_2_4 8 rfl rfl)
theorem dX2_init_2_105 : decode cX2_init_2 105 = .ok (.putfield 60, 3) := dk_181 0 60 (dk_at dksX2_init_2_4 11 rfl rfl)
theorem dX2_init_2_108 : decode cX2_init_2 108 = .ok (.aload_n 0, 1) := dk_42 (dk_at dksX2_init_2_4 14 rfl rfl)
theorem dX2_init_2_109 : decode cX2_init_2 109 = .ok (.aload_n 1, 1) := dk_43 (dk_at dksX2_init_2_4 15 rfl rfl)
theorem dX2_init_2_110 : decode cX2_init_2 110 = .ok (.getfield 63, 3) := dk_180 0 63 (dk_at dksX2_init_2_4 16 rfl rfl)
theorem dX2_init_2_113 : decode cX2_init_2 113 = .ok (.putfield 63, 3) := dk_181 0 63 (dk_at dksX2_init_2_4 19 rfl rfl)
theorem dX2_init_2_116 : decode cX2_init_2 116 = .ok (.aload_n 0, 1) := dk_42 (dk_at dksX2_init_2_4 22 rfl rfl)
theorem dX2_init_2_117 : decode cX2_init_2 117 = .ok (.aload_n 1, 1) := dk_43 (dk_at dksX2_init_2_4 23 rfl rfl)
theorem dX2_init_2_118 : decode cX2_init_2 118 = .ok (.getfield 66, 3) := dk_180 0 66 (dk_at dksX2_init_2_5 0 rfl rfl)
theorem dX2_init_2_121 : decode cX2_init_2 121 = .ok (.putfield 66, 3) := dk_181 0 66 (dk_at dksX2_init_2_5 3 rfl rfl)
theorem dX2_init_2_124 : decode cX2_init_2 124 = .ok (.aload_n 0, 1) := dk_42 (dk_at dksX2_init_2_5 6 rfl rfl)
theorem dX2_init_2_125 : decode cX2_init_2 125 = .ok (.aload_n 1, 1) := dk_43 (dk_at dksX2_init_2_5 7 rfl rfl)
theorem dX2_init_2_126 : decode cX2_init_2 126 = .ok (.getfield 69, 3) := dk_180 0 69 (dk_at dksX2_init_2_5 8 rfl rfl)
theorem dX2_init_2_129 : decode cX2_init_2 129 = .ok (.putfield 69, 3) := dk_181 0 69 (dk_at dksX2_init_2_5 11 rfl rfl)
theorem dX2_init_2_132 : decode cX2_init_2 132 = .ok (.aload_n 0, 1) := dk_42 (dk_at dksX2_init_2_5 14 rfl rfl)
theorem dX2_init_2_133 : decode cX2_init_2 133 = .ok (.aload_n 1, 1) := dk_43 (dk_at dksX2_init_2_5 15 rfl rfl)
theorem dX2_init_2_134 : decode cX2_init_2 134 = .ok (.getfield 72, 3) := dk_180 0 72 (dk_at dksX2_init_2_5 16 rfl rfl)
theorem dX2_init_2_137 : decode cX2_init_2 137 = .ok (.putfield 72, 3) := dk_181 0 72 (dk_at dksX2_init_2_5 19 rfl rfl)
theorem dX2_init_2_140 : decode cX2_init_2 140 = .ok (.aload_n 0, 1) := dk_42 (dk_at dksX2_init_2_5 22 rfl rfl)
theorem dX2_init_2_141 : decode cX2_init_2 141 = .ok (.aload_n 1, 1) := dk_43 (dk_at dksX2_init_2_5 23 rfl rfl)
theorem dX2_init_2_142 : decode cX2_init_2 142 = .ok (.getfield 75, 3) := dk_180 0 75 (dk_at dksX2_init_2_6 0 rfl rfl)
theorem dX2_init_2_145 : decode cX2_init_2 145 = .ok (.putfield 75, 3) := dk_181 0 75 (dk_at dksX2_init_2_6 3 rfl rfl)
theorem dX2_init_2_148 : decode cX2_init_2 148 = .ok (.aload_n 0, 1) := dk_42 (dk_at dksX2_init_2_6 6 rfl rfl)
theorem dX2_init_2_149 : decode cX2_init_2 149 = .ok (.aload_n 1, 1) := dk_43 (dk_at dksX2_init_2_6 7 rfl rfl)
theorem dX2_init_2_150 : decode cX2_init_2 150 = .ok (.getfield 78, 3) := dk_180 0 78 (dk_at dksX2_init_2_6 8 rfl rfl)
theorem dX2_init_2_153 : decode cX2_init_2 153 = .ok (.putfield 78, 3) := dk_181 0 78 (dk_at dksX2_init_2_6 11 rfl rfl)
theorem dX2_init_2_156 : decode cX2_init_2 156 = .ok (.return_, 1) := dk_177 (dk_at dksX2_init_2_6 14 rfl rfl)
abbrev cX2_addCock : ByteArray := prog_6_method_15_code
def yX2_addCock : MethodName := ⟨RX2, "addCock", "(III)I"⟩
def dkwX2_addCock_2 : List UInt8 := [16, 8, 182, 0, 166, 172]
abbrev dktX2_addCock_2 : List UInt8 := dkwX2_addCock_2 ++ []
def dkwX2_addCock_1 : List UInt8 := [153, 0, 7, 4, 167, 0, 4, 3, 184, 0, 160, 42, 187, 0, 109, 89, 3, 21, 4, 28, 29, 183, 0, 163]
abbrev dktX2_addCock_1 : List UInt8 := dkwX2_addCock_1 ++ dktX2_addCock_2
def dkwX2_addCock_0 : List UInt8 := [27, 184, 0, 156, 54, 4, 28, 3, 17, 0, 150, 184, 0, 85, 153, 0, 17, 29, 4, 16, 9, 184, 0, 85]
abbrev dktX2_addCock_0 : List UInt8 := dkwX2_addCock_0 ++ dktX2_addCock_1
theorem dksX2_addCock_0 : cX2_addCock.data.toList.drop 0 = dktX2_addCock_0 := by decide +kernel
theorem dksX2_addCock_1 : cX2_addCock.data.toList.drop 24 = dktX2_addCock_1 := dk_seg dksX2_addCock_0 24 rfl rfl
theorem dksX2_addCock_2 : cX2_addCock.data.toList.drop 48 = dktX2_addCock_2 := dk_seg dksX2_addCock_1 24 rfl rfl
theorem dX2_addCock_0 : decode cX2_addCock 0 = .ok (.iload_n 1, 1) := dk_27 (dk_at dksX2_addCock_0 0 rfl rfl)
theorem dX2_addCock_1 : decode cX2_addCock 1 = .ok (.invokestatic 156, 3) := dk_184 0 156 (dk_at dksX2_addCock_0 1 rfl rfl)
theorem dX2_addCock_4 : decode cX2_addCock 4 = .ok (.istore 4, 2) := dk_54 4 (dk_at dksX2_addCock_0 4 rfl rfl)
theorem dX2_addCock_6 : decode cX2_addCock 6 = .ok (.iload_n 2, 1) := dk_28 (dk_at dksX2_addCock_0 6 rfl rfl)
theorem dX2_addCock_7 : decode cX2_addCock 7 = .ok (.iconst 0, 1) := dk_3 (dk_at dksX2_addCock_0 7 rfl rfl)
theorem dX2_addCock_8 : decode cX2_addCock 8 = .ok (.sipush 150, 3) := dk_17 0 150 (dk_at dksX2_addCock_0 8 rfl rfl)
theorem dX2_addCock_11 : decode cX2_addCock 11 = .ok (.invokestatic 85, 3) := dk_184 0 85 (dk_at dksX2_addCock_0 11 rfl rfl)
theorem dX2_addCock_14 : decode cX2_addCock 14 = .ok (.ifCond .eq 17, 3) := dk_153 0 17 (dk_at dksX2_addCock_0 14 rfl rfl)
theorem dX2_addCock_17 : decode cX2_addCock 17 = .ok (.iload_n 3, 1) := dk_29 (dk_at dksX2_addCock_0 17 rfl rfl)
theorem dX2_addCock_18 : decode cX2_addCock 18 = .ok (.iconst 1, 1) := dk_4 (dk_at dksX2_addCock_0 18 rfl rfl)
theorem dX2_addCock_19 : decode cX2_addCock 19 = .ok (.bipush 9, 2) := dk_16 9 (dk_at dksX2_addCock_0 19 rfl rfl)
theorem dX2_addCock_21 : decode cX2_addCock 21 = .ok (.invokestatic 85, 3) := dk_184 0 85 (dk_at dksX2_addCock_0 21 rfl rfl)
theorem dX2_addCock_24 : decode cX2_addCock 24 = .ok (.ifCond .eq 7, 3) := dk_153 0 7 (dk_at dksX2_addCock_1 0 rfl rfl)
theorem dX2_addCock_27 : decode cX2_addCock 27 = .ok (.iconst 1, 1) := dk_4 (dk_at dksX2_addCock_1 3 rfl rfl)
theorem dX2_addCock_28 : decode cX2_addCock 28 = .ok (.goto 4, 3) := dk_167 0 4 (dk_at dksX2_addCock_1 4 rfl rfl)
theorem dX2_addCock_31 : decode cX2_addCock 31 = .ok (.iconst 0, 1) := dk_3 (dk_at dksX2_addCock_1 7 rfl rfl)
theorem dX2_addCock_32 : decode cX2_addCock 32 = .ok (.invokestatic 160, 3) := dk_184 0 160 (dk_at dksX2_addCock_1 8 rfl rfl)
theorem dX2_addCock_35 : decode cX2_addCock 35 = .ok (.aload_n 0, 1) := dk_42 (dk_at dksX2_addCock_1 11 rfl rfl)
theorem dX2_addCock_36 : decode cX2_addCock 36 = .ok (.new 109, 3) := dk_187 0 109 (dk_at dksX2_addCock_1 12 rfl rfl)
theorem dX2_addCock_39 : decode cX2_addCock 39 = .ok (.dup, 1) := dk_89 (dk_at dksX2_addCock_1 15 rfl rfl)
theorem dX2_addCock_40 : decode cX2_addCock 40 = .ok (.iconst 0, 1) := dk_3 (dk_at dksX2_addCock_1 16 rfl rfl)
theorem dX2_addCock_41 : decode cX2_addCock 41 = .ok (.iload 4, 2) := dk_21 4 (dk_at dksX2_addCock_1 17 rfl rfl)
theorem dX2_addCock_43 : decode cX2_addCock 43 = .ok (.iload_n 2, 1) := dk_28 (dk_at dksX2_addCock_1 19 rfl rfl)
theorem dX2_addCock_44 : decode cX2_addCock 44 = .ok (.iload_n 3, 1) := dk_29 (dk_at dksX2_addCock_1 20 rfl rfl)
theorem dX2_addCock_45 : decode cX2_addCock 45 = .ok (.invokespecial 163, 3) := dk_183 0 163 (dk_at dksX2_addCock_1 21 rfl rfl)
theorem dX2_addCock_48 : decode cX2_addCock 48 = .ok (.bipush 8, 2) := dk_16 8 (dk_at dksX2_addCock_2 0 rfl rfl)
theorem dX2_addCock_50 : decode cX2_addCock 50 = .ok (.invokevirtual 166, 3) := dk_182 0 166 (dk_at dksX2_addCock_2 2 rfl rfl)
theorem dX2_addCock_53 : decode cX2_addCock 53 = .ok (.ireturn, 1) := dk_172 (dk_at dksX2_addCock_2 5 rfl rfl)
abbrev cX2_lawn : ByteArray := prog_6_method_5_code
def yX2_lawn : MethodName := ⟨RX2, "lawn", "(I)I"⟩
def dkwX2_lawn_0 : List UInt8 := [26, 3, 16, 8, 184, 0, 85, 184, 0, 89, 26, 172]
abbrev dktX2_lawn_0 : List UInt8 := dkwX2_lawn_0 ++ []
theorem dksX2_lawn_0 : cX2_lawn.data.toList.drop 0 = dktX2_lawn_0 := by decide +kernel
theorem dX2_lawn_0 : decode cX2_lawn 0 = .ok (.iload_n 0, 1) := dk_26 (dk_at dksX2_lawn_0 0 rfl rfl)
theorem dX2_lawn_1 : decode cX2_lawn 1 = .ok (.iconst 0, 1) := dk_3 (dk_at dksX2_lawn_0 1 rfl rfl)
theorem dX2_lawn_2 : decode cX2_lawn 2 = .ok (.bipush 8, 2) := dk_16 8 (dk_at dksX2_lawn_0 2 rfl rfl)
theorem dX2_lawn_4 : decode cX2_lawn 4 = .ok (.invokestatic 85, 3) := dk_184 0 85 (dk_at dksX2_lawn_0 4 rfl rfl)
theorem dX2_lawn_7 : decode cX2_lawn 7 = .ok (.invokestatic 89, 3) := dk_184 0 89 (dk_at dksX2_lawn_0 7 rfl rfl)
theorem dX2_lawn_10 : decode cX2_lawn 10 = .ok (.iload_n 0, 1) := dk_26 (dk_at dksX2_lawn_0 10 rfl rfl)
theorem dX2_lawn_11 : decode cX2_lawn 11 = .ok (.ireturn, 1) := dk_172 (dk_at dksX2_lawn_0 11 rfl rfl)
abbrev cX2_buy : ByteArray := prog_6_method_14_code
def yX2_buy : MethodName := ⟨RX2, "buy", "(LPeacockLawns$Bird;I)I"⟩
def dkwX2_buy_2 : List UInt8 := [184, 0, 97, 42, 89, 180, 0, 41, 28, 100, 181, 0, 41, 42, 180, 0, 12, 43, 16, 12, 184, 0, 153, 172]
abbrev dktX2_buy_2 : List UInt8 := dkwX2_buy_2 ++ []
def dkwX2_buy_1 : List UInt8 := [184, 0, 97, 42, 180, 0, 41, 28, 161, 0, 7, 4, 167, 0, 4, 3, 16, 10, 28, 42, 180, 0, 41, 100]
abbrev dktX2_buy_1 : List UInt8 := dkwX2_buy_1 ++ dktX2_buy_2
def dkwX2_buy_0 : List UInt8 := [42, 180, 0, 12, 185, 0, 81, 1, 0, 16, 12, 162, 0, 7, 4, 167, 0, 4, 3, 4, 16, 12]
abbrev dktX2_buy_0 : List UInt8 := dkwX2_buy_0 ++ dktX2_buy_1
theorem dksX2_buy_0 : cX2_buy.data.toList.drop 0 = dktX2_buy_0 := by decide +kernel
theorem dksX2_buy_1 : cX2_buy.data.toList.drop 22 = dktX2_buy_1 := dk_seg dksX2_buy_0 22 rfl rfl
theorem dksX2_buy_2 : cX2_buy.data.toList.drop 46 = dktX2_buy_2 := dk_seg dksX2_buy_1 24 rfl rfl
theorem dX2_buy_0 : decode cX2_buy 0 = .ok (.aload_n 0, 1) := dk_42 (dk_at dksX2_buy_0 0 rfl rfl)
theorem dX2_buy_1 : decode cX2_buy 1 = .ok (.getfield 12, 3) := dk_180 0 12 (dk_at dksX2_buy_0 1 rfl rfl)
theorem dX2_buy_4 : decode cX2_buy 4 = .ok (.invokeinterface 81 1, 5) := by decide +kernel
theorem dX2_buy_9 : decode cX2_buy 9 = .ok (.bipush 12, 2) := dk_16 12 (dk_at dksX2_buy_0 9 rfl rfl)
theorem dX2_buy_11 : decode cX2_buy 11 = .ok (.if_icmp .ge 7, 3) := dk_162 0 7 (dk_at dksX2_buy_0 11 rfl rfl)
theorem dX2_buy_14 : decode cX2_buy 14 = .ok (.iconst 1, 1) := dk_4 (dk_at dksX2_buy_0 14 rfl rfl)
theorem dX2_buy_15 : decode cX2_buy 15 = .ok (.goto 4, 3) := dk_167 0 4 (dk_at dksX2_buy_0 15 rfl rfl)
theorem dX2_buy_18 : decode cX2_buy 18 = .ok (.iconst 0, 1) := dk_3 (dk_at dksX2_buy_0 18 rfl rfl)
theorem dX2_buy_19 : decode cX2_buy 19 = .ok (.iconst 1, 1) := dk_4 (dk_at dksX2_buy_0 19 rfl rfl)
theorem dX2_buy_20 : decode cX2_buy 20 = .ok (.bipush 12, 2) := dk_16 12 (dk_at dksX2_buy_0 20 rfl rfl)
theorem dX2_buy_22 : decode cX2_buy 22 = .ok (.invokestatic 97, 3) := dk_184 0 97 (dk_at dksX2_buy_1 0 rfl rfl)
theorem dX2_buy_25 : decode cX2_buy 25 = .ok (.aload_n 0, 1) := dk_42 (dk_at dksX2_buy_1 3 rfl rfl)
theorem dX2_buy_26 : decode cX2_buy 26 = .ok (.getfield 41, 3) := dk_180 0 41 (dk_at dksX2_buy_1 4 rfl rfl)
theorem dX2_buy_29 : decode cX2_buy 29 = .ok (.iload_n 2, 1) := dk_28 (dk_at dksX2_buy_1 7 rfl rfl)
theorem dX2_buy_30 : decode cX2_buy 30 = .ok (.if_icmp .lt 7, 3) := dk_161 0 7 (dk_at dksX2_buy_1 8 rfl rfl)
theorem dX2_buy_33 : decode cX2_buy 33 = .ok (.iconst 1, 1) := dk_4 (dk_at dksX2_buy_1 11 rfl rfl)
theorem dX2_buy_34 : decode cX2_buy 34 = .ok (.goto 4, 3) := dk_167 0 4 (dk_at dksX2_buy_1 12 rfl rfl)
theorem dX2_buy_37 : decode cX2_buy 37 = .ok (.iconst 0, 1) := dk_3 (dk_at dksX2_buy_1 15 rfl rfl)
theorem dX2_buy_38 : decode cX2_buy 38 = .ok (.bipush 10, 2) := dk_16 10 (dk_at dksX2_buy_1 16 rfl rfl)
theorem dX2_buy_40 : decode cX2_buy 40 = .ok (.iload_n 2, 1) := dk_28 (dk_at dksX2_buy_1 18 rfl rfl)
theorem dX2_buy_41 : decode cX2_buy 41 = .ok (.aload_n 0, 1) := dk_42 (dk_at dksX2_buy_1 19 rfl rfl)
theorem dX2_buy_42 : decode cX2_buy 42 = .ok (.getfield 41, 3) := dk_180 0 41 (dk_at dksX2_buy_1 20 rfl rfl)
theorem dX2_buy_45 : decode cX2_buy 45 = .ok (.isub, 1) := dk_100 (dk_at dksX2_buy_1 23 rfl rfl)
theorem dX2_buy_46 : decode cX2_buy 46 = .ok (.invokestatic 97, 3) := dk_184 0 97 (dk_at dksX2_buy_2 0 rfl rfl)
theorem dX2_buy_49 : decode cX2_buy 49 = .ok (.aload_n 0, 1) := dk_42 (dk_at dksX2_buy_2 3 rfl rfl)
theorem dX2_buy_50 : decode cX2_buy 50 = .ok (.dup, 1) := dk_89 (dk_at dksX2_buy_2 4 rfl rfl)
theorem dX2_buy_51 : decode cX2_buy 51 = .ok (.getfield 41, 3) := dk_180 0 41 (dk_at dksX2_buy_2 5 rfl rfl)
theorem dX2_buy_54 : decode cX2_buy 54 = .ok (.iload_n 2, 1) := dk_28 (dk_at dksX2_buy_2 8 rfl rfl)
theorem dX2_buy_55 : decode cX2_buy 55 = .ok (.isub, 1) := dk_100 (dk_at dksX2_buy_2 9 rfl rfl)
theorem dX2_buy_56 : decode cX2_buy 56 = .ok (.putfield 41, 3) := dk_181 0 41 (dk_at dksX2_buy_2 10 rfl rfl)
theorem dX2_buy_59 : decode cX2_buy 59 = .ok (.aload_n 0, 1) := dk_42 (dk_at dksX2_buy_2 13 rfl rfl)
theorem dX2_buy_60 : decode cX2_buy 60 = .ok (.getfield 12, 3) := dk_180 0 12 (dk_at dksX2_buy_2 14 rfl rfl)
theorem dX2_buy_63 : decode cX2_buy 63 = .ok (.aload_n 1, 1) := dk_43 (dk_at dksX2_buy_2 17 rfl rfl)
theorem dX2_buy_64 : decode cX2_buy 64 = .ok (.bipush 12, 2) := dk_16 12 (dk_at dksX2_buy_2 18 rfl rfl)
theorem dX2_buy_66 : decode cX2_buy 66 = .ok (.invokestatic 153, 3) := dk_184 0 153 (dk_at dksX2_buy_2 20 rfl rfl)
theorem dX2_buy_69 : decode cX2_buy 69 = .ok (.ireturn, 1) := dk_172 (dk_at dksX2_buy_2 23 rfl rfl)
abbrev cX2_add : ByteArray := prog_6_method_4_code
def yX2_add : MethodName := ⟨RX2, "add", "(Ljava/util/List;Ljava/lang/Object;I)I"⟩
def dkwX2_add_1 : List UInt8 := [185, 0, 101, 2, 0, 87, 42, 185, 0, 81, 1, 0, 4, 100, 172]
abbrev dktX2_add_1 : List UInt8 := dkwX2_add_1 ++ []
def dkwX2_add_0 : List UInt8 := [42, 185, 0, 81, 1, 0, 28, 162, 0, 7, 4, 167, 0, 4, 3, 4, 28, 184, 0, 97, 42, 43]
abbrev dktX2_add_0 : List UInt8 := dkwX2_add_0 ++ dktX2_add_1
theorem dksX2_add_0 : cX2_add.data.toList.drop 0 = dktX2_add_0 := by decide +kernel
theorem dksX2_add_1 : cX2_add.data.toList.drop 22 = dktX2_add_1 := dk_seg dksX2_add_0 22 rfl rfl
theorem dX2_add_0 : decode cX2_add 0 = .ok (.aload_n 0, 1) := dk_42 (dk_at dksX2_add_0 0 rfl rfl)
theorem dX2_add_1 : decode cX2_add 1 = .ok (.invokeinterface 81 1, 5) := by decide +kernel
theorem dX2_add_6 : decode cX2_add 6 = .ok (.iload_n 2, 1) := dk_28 (dk_at dksX2_add_0 6 rfl rfl)
theorem dX2_add_7 : decode cX2_add 7 = .ok (.if_icmp .ge 7, 3) := dk_162 0 7 (dk_at dksX2_add_0 7 rfl rfl)
theorem dX2_add_10 : decode cX2_add 10 = .ok (.iconst 1, 1) := dk_4 (dk_at dksX2_add_0 10 rfl rfl)
theorem dX2_add_11 : decode cX2_add 11 = .ok (.goto 4, 3) := dk_167 0 4 (dk_at dksX2_add_0 11 rfl rfl)
theorem dX2_add_14 : decode cX2_add 14 = .ok (.iconst 0, 1) := dk_3 (dk_at dksX2_add_0 14 rfl rfl)
theorem dX2_add_15 : decode cX2_add 15 = .ok (.iconst 1, 1) := dk_4 (dk_at dksX2_add_0 15 rfl rfl)
theorem dX2_add_16 : decode cX2_add 16 = .ok (.iload_n 2, 1) := dk_28 (dk_at dksX2_add_0 16 rfl rfl)
theorem dX2_add_17 : decode cX2_add 17 = .ok (.invokestatic 97, 3) := dk_184 0 97 (dk_at dksX2_add_0 17 rfl rfl)
theorem dX2_add_20 : decode cX2_add 20 = .ok (.aload_n 0, 1) := dk_42 (dk_at dksX2_add_0 20 rfl rfl)
theorem dX2_add_21 : decode cX2_add 21 = .ok (.aload_n 1, 1) := dk_43 (dk_at dksX2_add_0 21 rfl rfl)
theorem dX2_add_22 : decode cX2_add 22 = .ok (.invokeinterface 101 2, 5) := by decide +kernel
theorem dX2_add_27 : decode cX2_add 27 = .ok (.pop, 1) := dk_87 (dk_at dksX2_add_1 5 rfl rfl)
theorem dX2_add_28 : decode cX2_add 28 = .ok (.aload_n 0, 1) := dk_42 (dk_at dksX2_add_1 6 rfl rfl)
theorem dX2_add_29 : decode cX2_add 29 = .ok (.invokeinterface 81 1, 5) := by decide +kernel
theorem dX2_add_34 : decode cX2_add 34 = .ok (.iconst 1, 1) := dk_4 (dk_at dksX2_add_1 12 rfl rfl)
theorem dX2_add_35 : decode cX2_add 35 = .ok (.isub, 1) := dk_100 (dk_at dksX2_add_1 13 rfl rfl)
theorem dX2_add_36 : decode cX2_add 36 = .ok (.ireturn, 1) := dk_172 (dk_at dksX2_add_1 14 rfl rfl)
abbrev cX2_addHen : ByteArray := prog_6_method_16_code
def yX2_addHen : MethodName := ⟨RX2, "addHen", "(I)I"⟩
def dkwX2_addHen_0 : List UInt8 := [42, 187, 0, 109, 89, 4, 27, 184, 0, 156, 3, 3, 183, 0, 163, 8, 182, 0, 166, 172]
abbrev dktX2_addHen_0 : List UInt8 := dkwX2_addHen_0 ++ []
theorem dksX2_addHen_0 : cX2_addHen.data.toList.drop 0 = dktX2_addHen_0 := by decide +kernel
theorem dX2_addHen_0 : decode cX2_addHen 0 = .ok (.aload_n 0, 1) := dk_42 (dk_at dksX2_addHen_0 0 rfl rfl)
theorem dX2_addHen_1 : decode cX2_addHen 1 = .ok (.new 109, 3) := dk_187 0 109 (dk_at dksX2_addHen_0 1 rfl rfl)
theorem dX2_addHen_4 : decode cX2_addHen 4 = .ok (.dup, 1) := dk_89 (dk_at dksX2_addHen_0 4 rfl rfl)
theorem dX2_addHen_5 : decode cX2_addHen 5 = .ok (.iconst 1, 1) := dk_4 (dk_at dksX2_addHen_0 5 rfl rfl)
theorem dX2_addHen_6 : decode cX2_addHen 6 = .ok (.iload_n 1, 1) := dk_27 (dk_at dksX2_addHen_0 6 rfl rfl)
theorem dX2_addHen_7 : decode cX2_addHen 7 = .ok (.invokestatic 156, 3) := dk_184 0 156 (dk_at dksX2_addHen_0 7 rfl rfl)
theorem dX2_addHen_10 : decode cX2_addHen 10 = .ok (.iconst 0, 1) := dk_3 (dk_at dksX2_addHen_0 10 rfl rfl)
theorem dX2_addHen_11 : decode cX2_addHen 11 = .ok (.iconst 0, 1) := dk_3 (dk_at dksX2_addHen_0 11 rfl rfl)
theorem dX2_addHen_12 : decode cX2_addHen 12 = .ok (.invokespecial 163, 3) := dk_183 0 163 (dk_at dksX2_addHen_0 12 rfl rfl)
theorem dX2_addHen_15 : decode cX2_addHen 15 = .ok (.iconst 5, 1) := dk_8 (dk_at dksX2_addHen_0 15 rfl rfl)
theorem dX2_addHen_16 : decode cX2_addHen 16 = .ok (.invokevirtual 166, 3) := dk_182 0 166 (dk_at dksX2_addHen_0 16 rfl rfl)
theorem dX2_addHen_19 : decode cX2_addHen 19 = .ok (.ireturn, 1) := dk_172 (dk_at dksX2_addHen_0 19 rfl rfl)
abbrev cX2_lay : ByteArray := prog_6_method_17_code
def yX2_lay : MethodName := ⟨RX2, "lay", "(I)I"⟩
def dkwX2_lay_2 : List UInt8 := [180, 0, 178, 4, 96, 44, 180, 0, 181, 182, 0, 184, 182, 0, 188, 44, 180, 0, 178, 4, 96, 172]
abbrev dktX2_lay_2 : List UInt8 := dkwX2_lay_2 ++ []
def dkwX2_lay_1 : List UInt8 := [180, 0, 178, 16, 6, 162, 0, 7, 4, 167, 0, 4, 3, 6, 16, 6, 184, 0, 97, 42, 27, 44, 44]
abbrev dktX2_lay_1 : List UInt8 := dkwX2_lay_1 ++ dktX2_lay_2
def dkwX2_lay_0 : List UInt8 := [42, 180, 0, 12, 27, 184, 0, 170, 192, 0, 109, 77, 44, 180, 0, 174, 5, 27, 184, 0, 97, 44]
abbrev dktX2_lay_0 : List UInt8 := dkwX2_lay_0 ++ dktX2_lay_1
theorem dksX2_lay_0 : cX2_lay.data.toList.drop 0 = dktX2_lay_0 := by decide +kernel
theorem dksX2_lay_1 : cX2_lay.data.toList.drop 22 = dktX2_lay_1 := dk_seg dksX2_lay_0 22 rfl rfl
theorem dksX2_lay_2 : cX2_lay.data.toList.drop 45 = dktX2_lay_2 := dk_seg dksX2_lay_1 23 rfl rfl
theorem dX2_lay_0 : decode cX2_lay 0 = .ok (.aload_n 0, 1) := dk_42 (dk_at dksX2_lay_0 0 rfl rfl)
theorem dX2_lay_1 : decode cX2_lay 1 = .ok (.getfield 12, 3) := dk_180 0 12 (dk_at dksX2_lay_0 1 rfl rfl)
theorem dX2_lay_4 : decode cX2_lay 4 = .ok (.iload_n 1, 1) := dk_27 (dk_at dksX2_lay_0 4 rfl rfl)
theorem dX2_lay_5 : decode cX2_lay 5 = .ok (.invokestatic 170, 3) := dk_184 0 170 (dk_at dksX2_lay_0 5 rfl rfl)
theorem dX2_lay_8 : decode cX2_lay 8 = .ok (.checkcast 109, 3) := dk_192 0 109 (dk_at dksX2_lay_0 8 rfl rfl)
theorem dX2_lay_11 : decode cX2_lay 11 = .ok (.astore_n 2, 1) := dk_77 (dk_at dksX2_lay_0 11 rfl rfl)
theorem dX2_lay_12 : decode cX2_lay 12 = .ok (.aload_n 2, 1) := dk_44 (dk_at dksX2_lay_0 12 rfl rfl)
theorem dX2_lay_13 : decode cX2_lay 13 = .ok (.getfield 174, 3) := dk_180 0 174 (dk_at dksX2_lay_0 13 rfl rfl)
theorem dX2_lay_16 : decode cX2_lay 16 = .ok (.iconst 2, 1) := dk_5 (dk_at dksX2_lay_0 16 rfl rfl)
theorem dX2_lay_17 : decode cX2_lay 17 = .ok (.iload_n 1, 1) := dk_27 (dk_at dksX2_lay_0 17 rfl rfl)
theorem dX2_lay_18 : decode cX2_lay 18 = .ok (.invokestatic 97, 3) := dk_184 0 97 (dk_at dksX2_lay_0 18 rfl rfl)
theorem dX2_lay_21 : decode cX2_lay 21 = .ok (.aload_n 2, 1) := dk_44 (dk_at dksX2_lay_0 21 rfl rfl)
theorem dX2_lay_22 : decode cX2_lay 22 = .ok (.getfield 178, 3) := dk_180 0 178 (dk_at dksX2_lay_1 0 rfl rfl)
theorem dX2_lay_25 : decode cX2_lay 25 = .ok (.bipush 6, 2) := dk_16 6 (dk_at dksX2_lay_1 3 rfl rfl)
theorem dX2_lay_27 : decode cX2_lay 27 = .ok (.if_icmp .ge 7, 3) := dk_162 0 7 (dk_at dksX2_lay_1 5 rfl rfl)
theorem dX2_lay_30 : decode cX2_lay 30 = .ok (.iconst 1, 1) := dk_4 (dk_at dksX2_lay_1 8 rfl rfl)
theorem dX2_lay_31 : decode cX2_lay 31 = .ok (.goto 4, 3) := dk_167 0 4 (dk_at dksX2_lay_1 9 rfl rfl)
theorem dX2_lay_34 : decode cX2_lay 34 = .ok (.iconst 0, 1) := dk_3 (dk_at dksX2_lay_1 12 rfl rfl)
theorem dX2_lay_35 : decode cX2_lay 35 = .ok (.iconst 3, 1) := dk_6 (dk_at dksX2_lay_1 13 rfl rfl)
theorem dX2_lay_36 : decode cX2_lay 36 = .ok (.bipush 6, 2) := dk_16 6 (dk_at dksX2_lay_1 14 rfl rfl)
theorem dX2_lay_38 : decode cX2_lay 38 = .ok (.invokestatic 97, 3) := dk_184 0 97 (dk_at dksX2_lay_1 16 rfl rfl)
theorem dX2_lay_41 : decode cX2_lay 41 = .ok (.aload_n 0, 1) := dk_42 (dk_at dksX2_lay_1 19 rfl rfl)
theorem dX2_lay_42 : decode cX2_lay 42 = .ok (.iload_n 1, 1) := dk_27 (dk_at dksX2_lay_1 20 rfl rfl)
theorem dX2_lay_43 : decode cX2_lay 43 = .ok (.aload_n 2, 1) := dk_44 (dk_at dksX2_lay_1 21 rfl rfl)
theorem dX2_lay_44 : decode cX2_lay 44 = .ok (.aload_n 2, 1) := dk_44 (dk_at dksX2_lay_1 22 rfl rfl)
theorem dX2_lay_45 : decode cX2_lay 45 = .ok (.getfield 178, 3) := dk_180 0 178 (dk_at dksX2_lay_2 0 rfl rfl)
theorem dX2_lay_48 : decode cX2_lay 48 = .ok (.iconst 1, 1) := dk_4 (dk_at dksX2_lay_2 3 rfl rfl)
theorem dX2_lay_49 : decode cX2_lay 49 = .ok (.iadd, 1) := dk_96 (dk_at dksX2_lay_2 4 rfl rfl)
theorem dX2_lay_50 : decode cX2_lay 50 = .ok (.aload_n 2, 1) := dk_44 (dk_at dksX2_lay_2 5 rfl rfl)
theorem dX2_lay_51 : decode cX2_lay 51 = .ok (.getfield 181, 3) := dk_180 0 181 (dk_at dksX2_lay_2 6 rfl rfl)
theorem dX2_lay_54 : decode cX2_lay 54 = .ok (.invokevirtual 184, 3) := dk_182 0 184 (dk_at dksX2_lay_2 9 rfl rfl)
theorem dX2_lay_57 : decode cX2_lay 57 = .ok (.invokevirtual 188, 3) := dk_182 0 188 (dk_at dksX2_lay_2 12 rfl rfl)
theorem dX2_lay_60 : decode cX2_lay 60 = .ok (.aload_n 2, 1) := dk_44 (dk_at dksX2_lay_2 15 rfl rfl)
theorem dX2_lay_61 : decode cX2_lay 61 = .ok (.getfield 178, 3) := dk_180 0 178 (dk_at dksX2_lay_2 16 rfl rfl)
theorem dX2_lay_64 : decode cX2_lay 64 = .ok (.iconst 1, 1) := dk_4 (dk_at dksX2_lay_2 19 rfl rfl)
theorem dX2_lay_65 : decode cX2_lay 65 = .ok (.iadd, 1) := dk_96 (dk_at dksX2_lay_2 20 rfl rfl)
theorem dX2_lay_66 : decode cX2_lay 66 = .ok (.ireturn, 1) := dk_172 (dk_at dksX2_lay_2 21 rfl rfl)
abbrev cX2_at : ByteArray := prog_6_method_3_code
def yX2_at : MethodName := ⟨RX2, "at", "(Ljava/util/List;I)Ljava/lang/Object;"⟩
def dkwX2_at_0 : List UInt8 := [27, 3, 42, 185, 0, 81, 1, 0, 4, 100, 184, 0, 85, 184, 0, 89, 42, 27, 185, 0, 93, 2, 0, 176]
abbrev dktX2_at_0 : List UInt8 := dkwX2_at_0 ++ []
theorem dksX2_at_0 : cX2_at.data.toList.drop 0 = dktX2_at_0 := by decide +kernel
theorem dX2_at_0 : decode cX2_at 0 = .ok (.iload_n 1, 1) := dk_27 (dk_at dksX2_at_0 0 rfl rfl)
theorem dX2_at_1 : decode cX2_at 1 = .ok (.iconst 0, 1) := dk_3 (dk_at dksX2_at_0 1 rfl rfl)
theorem dX2_at_2 : decode cX2_at 2 = .ok (.aload_n 0, 1) := dk_42 (dk_at dksX2_at_0 2 rfl rfl)
theorem dX2_at_3 : decode cX2_at 3 = .ok (.invokeinterface 81 1, 5) := by decide +kernel
theorem dX2_at_8 : decode cX2_at 8 = .ok (.iconst 1, 1) := dk_4 (dk_at dksX2_at_0 8 rfl rfl)
theorem dX2_at_9 : decode cX2_at 9 = .ok (.isub, 1) := dk_100 (dk_at dksX2_at_0 9 rfl rfl)
theorem dX2_at_10 : decode cX2_at 10 = .ok (.invokestatic 85, 3) := dk_184 0 85 (dk_at dksX2_at_0 10 rfl rfl)
theorem dX2_at_13 : decode cX2_at 13 = .ok (.invokestatic 89, 3) := dk_184 0 89 (dk_at dksX2_at_0 13 rfl rfl)
theorem dX2_at_16 : decode cX2_at 16 = .ok (.aload_n 0, 1) := dk_42 (dk_at dksX2_at_0 16 rfl rfl)
theorem dX2_at_17 : decode cX2_at 17 = .ok (.iload_n 1, 1) := dk_27 (dk_at dksX2_at_0 17 rfl rfl)
theorem dX2_at_18 : decode cX2_at 18 = .ok (.invokeinterface 93 2, 5) := by decide +kernel
theorem dX2_at_23 : decode cX2_at 23 = .ok (.areturn, 1) := dk_176 (dk_at dksX2_at_0 23 rfl rfl)
abbrev cX2_put : ByteArray := prog_6_method_7_code
def yX2_put : MethodName := ⟨RX2, "put", "(ILPeacockLawns$Bird;)V"⟩
def dkwX2_put_0 : List UInt8 := [42, 180, 0, 12, 27, 44, 185, 0, 105, 3, 0, 192, 0, 109, 78, 177]
abbrev dktX2_put_0 : List UInt8 := dkwX2_put_0 ++ []
theorem dksX2_put_0 : cX2_put.data.toList.drop 0 = dktX2_put_0 := by decide +kernel
theorem dX2_put_0 : decode cX2_put 0 = .ok (.aload_n 0, 1) := dk_42 (dk_at dksX2_put_0 0 rfl rfl)
theorem dX2_put_1 : decode cX2_put 1 = .ok (.getfield 12, 3) := dk_180 0 12 (dk_at dksX2_put_0 1 rfl rfl)
theorem dX2_put_4 : decode cX2_put 4 = .ok (.iload_n 1, 1) := dk_27 (dk_at dksX2_put_0 4 rfl rfl)
theorem dX2_put_5 : decode cX2_put 5 = .ok (.aload_n 2, 1) := dk_44 (dk_at dksX2_put_0 5 rfl rfl)
theorem dX2_put_6 : decode cX2_put 6 = .ok (.invokeinterface 105 3, 5) := by decide +kernel
theorem dX2_put_11 : decode cX2_put 11 = .ok (.checkcast 109, 3) := dk_192 0 109 (dk_at dksX2_put_0 11 rfl rfl)
theorem dX2_put_14 : decode cX2_put 14 = .ok (.astore_n 3, 1) := dk_78 (dk_at dksX2_put_0 14 rfl rfl)
theorem dX2_put_15 : decode cX2_put 15 = .ok (.return_, 1) := dk_177 (dk_at dksX2_put_0 15 rfl rfl)
abbrev cX2_goesTo : ByteArray := prog_6_method_18_code
def yX2_goesTo : MethodName := ⟨RX2, "goesTo", "(LPeacockLawns$Bird;)I"⟩
def dkwX2_goesTo_1 : List UInt8 := [172]
abbrev dktX2_goesTo_1 : List UInt8 := dkwX2_goesTo_1 ++ []
def dkwX2_goesTo_0 : List UInt8 := [43, 182, 0, 192, 153, 0, 10, 43, 180, 0, 195, 167, 0, 13, 42, 43, 180, 0, 195, 16, 6, 182, 0, 197]
abbrev dktX2_goesTo_0 : List UInt8 := dkwX2_goesTo_0 ++ dktX2_goesTo_1
theorem dksX2_goesTo_0 : cX2_goesTo.data.toList.drop 0 = dktX2_goesTo_0 := by decide +kernel
theorem dksX2_goesTo_1 : cX2_goesTo.data.toList.drop 24 = dktX2_goesTo_1 := dk_seg dksX2_goesTo_0 24 rfl rfl
theorem dX2_goesTo_0 : decode cX2_goesTo 0 = .ok (.aload_n 1, 1) := dk_43 (dk_at dksX2_goesTo_0 0 rfl rfl)
theorem dX2_goesTo_1 : decode cX2_goesTo 1 = .ok (.invokevirtual 192, 3) := dk_182 0 192 (dk_at dksX2_goesTo_0 1 rfl rfl)
theorem dX2_goesTo_4 : decode cX2_goesTo 4 = .ok (.ifCond .eq 10, 3) := dk_153 0 10 (dk_at dksX2_goesTo_0 4 rfl rfl)
theorem dX2_goesTo_7 : decode cX2_goesTo 7 = .ok (.aload_n 1, 1) := dk_43 (dk_at dksX2_goesTo_0 7 rfl rfl)
theorem dX2_goesTo_8 : decode cX2_goesTo 8 = .ok (.getfield 195, 3) := dk_180 0 195 (dk_at dksX2_goesTo_0 8 rfl rfl)
theorem dX2_goesTo_11 : decode cX2_goesTo 11 = .ok (.goto 13, 3) := dk_167 0 13 (dk_at dksX2_goesTo_0 11 rfl rfl)
theorem dX2_goesTo_14 : decode cX2_goesTo 14 = .ok (.aload_n 0, 1) := dk_42 (dk_at dksX2_goesTo_0 14 rfl rfl)
theorem dX2_goesTo_15 : decode cX2_goesTo 15 = .ok (.aload_n 1, 1) := dk_43 (dk_at dksX2_goesTo_0 15 rfl rfl)
theorem dX2_goesTo_16 : decode cX2_goesTo 16 = .ok (.getfield 195, 3) := dk_180 0 195 (dk_at dksX2_goesTo_0 16 rfl rfl)
theorem dX2_goesTo_19 : decode cX2_goesTo 19 = .ok (.bipush 6, 2) := dk_16 6 (dk_at dksX2_goesTo_0 19 rfl rfl)
theorem dX2_goesTo_21 : decode cX2_goesTo 21 = .ok (.invokevirtual 197, 3) := dk_182 0 197 (dk_at dksX2_goesTo_0 21 rfl rfl)
theorem dX2_goesTo_24 : decode cX2_goesTo 24 = .ok (.ireturn, 1) := dk_172 (dk_at dksX2_goesTo_1 0 rfl rfl)
abbrev cX2_way : ByteArray := prog_6_method_9_code
def yX2_way : MethodName := ⟨RX2, "way", "(II)I"⟩
def dkwX2_way_3 : List UInt8 := [172]
abbrev dktX2_way_3 : List UInt8 := dkwX2_way_3 ++ []
def dkwX2_way_2 : List UInt8 := [21, 4, 162, 0, 15, 21, 5, 62, 42, 180, 0, 24, 21, 6, 46, 54, 4, 132, 5, 1, 167, 255, 198, 29]
abbrev dktX2_way_2 : List UInt8 := dkwX2_way_2 ++ dktX2_way_3
def dkwX2_way_1 : List UInt8 := [167, 0, 9, 27, 21, 5, 184, 0, 120, 54, 6, 21, 6, 2, 159, 0, 27, 42, 180, 0, 24, 21, 6, 46]
abbrev dktX2_way_1 : List UInt8 := dkwX2_way_1 ++ dktX2_way_2
def dkwX2_way_0 : List UInt8 := [27, 62, 28, 4, 96, 54, 4, 3, 54, 5, 21, 5, 16, 9, 162, 0, 57, 21, 5, 27, 160, 0, 7, 2]
abbrev dktX2_way_0 : List UInt8 := dkwX2_way_0 ++ dktX2_way_1
theorem dksX2_way_0 : cX2_way.data.toList.drop 0 = dktX2_way_0 := by decide +kernel
theorem dksX2_way_1 : cX2_way.data.toList.drop 24 = dktX2_way_1 := dk_seg dksX2_way_0 24 rfl rfl
theorem dksX2_way_2 : cX2_way.data.toList.drop 48 = dktX2_way_2 := dk_seg dksX2_way_1 24 rfl rfl
theorem dksX2_way_3 : cX2_way.data.toList.drop 72 = dktX2_way_3 := dk_seg dksX2_way_2 24 rfl rfl
theorem dX2_way_0 : decode cX2_way 0 = .ok (.iload_n 1, 1) := dk_27 (dk_at dksX2_way_0 0 rfl rfl)
theorem dX2_way_1 : decode cX2_way 1 = .ok (.istore_n 3, 1) := dk_62 (dk_at dksX2_way_0 1 rfl rfl)
theorem dX2_way_2 : decode cX2_way 2 = .ok (.iload_n 2, 1) := dk_28 (dk_at dksX2_way_0 2 rfl rfl)
theorem dX2_way_3 : decode cX2_way 3 = .ok (.iconst 1, 1) := dk_4 (dk_at dksX2_way_0 3 rfl rfl)
theorem dX2_way_4 : decode cX2_way 4 = .ok (.iadd, 1) := dk_96 (dk_at dksX2_way_0 4 rfl rfl)
theorem dX2_way_5 : decode cX2_way 5 = .ok (.istore 4, 2) := dk_54 4 (dk_at dksX2_way_0 5 rfl rfl)
theorem dX2_way_7 : decode cX2_way 7 = .ok (.iconst 0, 1) := dk_3 (dk_at dksX2_way_0 7 rfl rfl)
theorem dX2_way_8 : decode cX2_way 8 = .ok (.istore 5, 2) := dk_54 5 (dk_at dksX2_way_0 8 rfl rfl)
theorem dX2_way_10 : decode cX2_way 10 = .ok (.iload 5, 2) := dk_21 5 (dk_at dksX2_way_0 10 rfl rfl)
theorem dX2_way_12 : decode cX2_way 12 = .ok (.bipush 9, 2) := dk_16 9 (dk_at dksX2_way_0 12 rfl rfl)
theorem dX2_way_14 : decode cX2_way 14 = .ok (.if_icmp .ge 57, 3) := dk_162 0 57 (dk_at dksX2_way_0 14 rfl rfl)
theorem dX2_way_17 : decode cX2_way 17 = .ok (.iload 5, 2) := dk_21 5 (dk_at dksX2_way_0 17 rfl rfl)
theorem dX2_way_19 : decode cX2_way 19 = .ok (.iload_n 1, 1) := dk_27 (dk_at dksX2_way_0 19 rfl rfl)
theorem dX2_way_20 : decode cX2_way 20 = .ok (.if_icmp .ne 7, 3) := dk_160 0 7 (dk_at dksX2_way_0 20 rfl rfl)
theorem dX2_way_23 : decode cX2_way 23 = .ok (.iconst (-1), 1) := dk_2 (dk_at dksX2_way_0 23 rfl rfl)
theorem dX2_way_24 : decode cX2_way 24 = .ok (.goto 9, 3) := dk_167 0 9 (dk_at dksX2_way_1 0 rfl rfl)
theorem dX2_way_27 : decode cX2_way 27 = .ok (.iload_n 1, 1) := dk_27 (dk_at dksX2_way_1 3 rfl rfl)
theorem dX2_way_28 : decode cX2_way 28 = .ok (.iload 5, 2) := dk_21 5 (dk_at dksX2_way_1 4 rfl rfl)
theorem dX2_way_30 : decode cX2_way 30 = .ok (.invokestatic 120, 3) := dk_184 0 120 (dk_at dksX2_way_1 6 rfl rfl)
theorem dX2_way_33 : decode cX2_way 33 = .ok (.istore 6, 2) := dk_54 6 (dk_at dksX2_way_1 9 rfl rfl)
theorem dX2_way_35 : decode cX2_way 35 = .ok (.iload 6, 2) := dk_21 6 (dk_at dksX2_way_1 11 rfl rfl)
theorem dX2_way_37 : decode cX2_way 37 = .ok (.iconst (-1), 1) := dk_2 (dk_at dksX2_way_1 13 rfl rfl)
theorem dX2_way_38 : decode cX2_way 38 = .ok (.if_icmp .eq 27, 3) := dk_159 0 27 (dk_at dksX2_way_1 14 rfl rfl)
theorem dX2_way_41 : decode cX2_way 41 = .ok (.aload_n 0, 1) := dk_42 (dk_at dksX2_way_1 17 rfl rfl)
theorem dX2_way_42 : decode cX2_way 42 = .ok (.getfield 24, 3) := dk_180 0 24 (dk_at dksX2_way_1 18 rfl rfl)
theorem dX2_way_45 : decode cX2_way 45 = .ok (.iload 6, 2) := dk_21 6 (dk_at dksX2_way_1 21 rfl rfl)
theorem dX2_way_47 : decode cX2_way 47 = .ok (.iaload, 1) := dk_46 (dk_at dksX2_way_1 23 rfl rfl)
theorem dX2_way_48 : decode cX2_way 48 = .ok (.iload 4, 2) := dk_21 4 (dk_at dksX2_way_2 0 rfl rfl)
theorem dX2_way_50 : decode cX2_way 50 = .ok (.if_icmp .ge 15, 3) := dk_162 0 15 (dk_at dksX2_way_2 2 rfl rfl)
theorem dX2_way_53 : decode cX2_way 53 = .ok (.iload 5, 2) := dk_21 5 (dk_at dksX2_way_2 5 rfl rfl)
theorem dX2_way_55 : decode cX2_way 55 = .ok (.istore_n 3, 1) := dk_62 (dk_at dksX2_way_2 7 rfl rfl)
theorem dX2_way_56 : decode cX2_way 56 = .ok (.aload_n 0, 1) := dk_42 (dk_at dksX2_way_2 8 rfl rfl)
theorem dX2_way_57 : decode cX2_way 57 = .ok (.getfield 24, 3) := dk_180 0 24 (dk_at dksX2_way_2 9 rfl rfl)
theorem dX2_way_60 : decode cX2_way 60 = .ok (.iload 6, 2) := dk_21 6 (dk_at dksX2_way_2 12 rfl rfl)
theorem dX2_way_62 : decode cX2_way 62 = .ok (.iaload, 1) := dk_46 (dk_at dksX2_way_2 14 rfl rfl)
theorem dX2_way_63 : decode cX2_way 63 = .ok (.istore 4, 2) := dk_54 4 (dk_at dksX2_way_2 15 rfl rfl)
theorem dX2_way_65 : decode cX2_way 65 = .ok (.iinc 5 1, 3) := dk_132 5 1 (dk_at dksX2_way_2 17 rfl rfl)
theorem dX2_way_68 : decode cX2_way 68 = .ok (.goto (-58), 3) := dk_167 255 198 (dk_at dksX2_way_2 20 rfl rfl)
theorem dX2_way_71 : decode cX2_way 71 = .ok (.iload_n 3, 1) := dk_29 (dk_at dksX2_way_2 23 rfl rfl)
theorem dX2_way_72 : decode cX2_way 72 = .ok (.ireturn, 1) := dk_172 (dk_at dksX2_way_3 0 rfl rfl)
abbrev cX2_between : ByteArray := prog_6_method_8_code
def yX2_between : MethodName := ⟨RX2, "between", "(II)I"⟩
def dkwX2_between_2 : List UInt8 := [162, 0, 13, 5, 21, 4, 104, 21, 5, 96, 167, 0, 4, 2, 172]
abbrev dktX2_between_2 : List UInt8 := dkwX2_between_2 ++ []
def dkwX2_between_1 : List UInt8 := [29, 6, 160, 0, 14, 16, 6, 6, 21, 4, 104, 96, 21, 5, 96, 172, 29, 4, 160, 0, 19, 21, 5, 5]
abbrev dktX2_between_1 : List UInt8 := dkwX2_between_1 ++ dktX2_between_2
def dkwX2_between_0 : List UInt8 := [26, 27, 184, 0, 111, 61, 26, 27, 184, 0, 117, 28, 100, 62, 28, 6, 108, 54, 4, 28, 6, 112, 54, 5]
abbrev dktX2_between_0 : List UInt8 := dkwX2_between_0 ++ dktX2_between_1
theorem dksX2_between_0 : cX2_between.data.toList.drop 0 = dktX2_between_0 := by decide +kernel
theorem dksX2_between_1 : cX2_between.data.toList.drop 24 = dktX2_between_1 := dk_seg dksX2_between_0 24 rfl rfl
theorem dksX2_between_2 : cX2_between.data.toList.drop 48 = dktX2_between_2 := dk_seg dksX2_between_1 24 rfl rfl
theorem dX2_between_0 : decode cX2_between 0 = .ok (.iload_n 0, 1) := dk_26 (dk_at dksX2_between_0 0 rfl rfl)
theorem dX2_between_1 : decode cX2_between 1 = .ok (.iload_n 1, 1) := dk_27 (dk_at dksX2_between_0 1 rfl rfl)
theorem dX2_between_2 : decode cX2_between 2 = .ok (.invokestatic 111, 3) := dk_184 0 111 (dk_at dksX2_between_0 2 rfl rfl)
theorem dX2_between_5 : decode cX2_between 5 = .ok (.istore_n 2, 1) := dk_61 (dk_at dksX2_between_0 5 rfl rfl)
theorem dX2_between_6 : decode cX2_between 6 = .ok (.iload_n 0, 1) := dk_26 (dk_at dksX2_between_0 6 rfl rfl)
theorem dX2_between_7 : decode cX2_between 7 = .ok (.iload_n 1, 1) := dk_27 (dk_at dksX2_between_0 7 rfl rfl)
theorem dX2_between_8 : decode cX2_between 8 = .ok (.invokestatic 117, 3) := dk_184 0 117 (dk_at dksX2_between_0 8 rfl rfl)
theorem dX2_between_11 : decode cX2_between 11 = .ok (.iload_n 2, 1) := dk_28 (dk_at dksX2_between_0 11 rfl rfl)
theorem dX2_between_12 : decode cX2_between 12 = .ok (.isub, 1) := dk_100 (dk_at dksX2_between_0 12 rfl rfl)
theorem dX2_between_13 : decode cX2_between 13 = .ok (.istore_n 3, 1) := dk_62 (dk_at dksX2_between_0 13 rfl rfl)
theorem dX2_between_14 : decode cX2_between 14 = .ok (.iload_n 2, 1) := dk_28 (dk_at dksX2_between_0 14 rfl rfl)
theorem dX2_between_15 : decode cX2_between 15 = .ok (.iconst 3, 1) := dk_6 (dk_at dksX2_between_0 15 rfl rfl)
theorem dX2_between_16 : decode cX2_between 16 = .ok (.idiv, 1) := dk_108 (dk_at dksX2_between_0 16 rfl rfl)
theorem dX2_between_17 : decode cX2_between 17 = .ok (.istore 4, 2) := dk_54 4 (dk_at dksX2_between_0 17 rfl rfl)
theorem dX2_between_19 : decode cX2_between 19 = .ok (.iload_n 2, 1) := dk_28 (dk_at dksX2_between_0 19 rfl rfl)
theorem dX2_between_20 : decode cX2_between 20 = .ok (.iconst 3, 1) := dk_6 (dk_at dksX2_between_0 20 rfl rfl)
theorem dX2_between_21 : decode cX2_between 21 = .ok (.irem, 1) := dk_112 (dk_at dksX2_between_0 21 rfl rfl)
theorem dX2_between_22 : decode cX2_between 22 = .ok (.istore 5, 2) := dk_54 5 (dk_at dksX2_between_0 22 rfl rfl)
theorem dX2_between_24 : decode cX2_between 24 = .ok (.iload_n 3, 1) := dk_29 (dk_at dksX2_between_1 0 rfl rfl)
theorem dX2_between_25 : decode cX2_between 25 = .ok (.iconst 3, 1) := dk_6 (dk_at dksX2_between_1 1 rfl rfl)
theorem dX2_between_26 : decode cX2_between 26 = .ok (.if_icmp .ne 14, 3) := dk_160 0 14 (dk_at dksX2_between_1 2 rfl rfl)
theorem dX2_between_29 : decode cX2_between 29 = .ok (.bipush 6, 2) := dk_16 6 (dk_at dksX2_between_1 5 rfl rfl)
theorem dX2_between_31 : decode cX2_between 31 = .ok (.iconst 3, 1) := dk_6 (dk_at dksX2_between_1 7 rfl rfl)
theorem dX2_between_32 : decode cX2_between 32 = .ok (.iload 4, 2) := dk_21 4 (dk_at dksX2_between_1 8 rfl rfl)
theorem dX2_between_34 : decode cX2_between 34 = .ok (.imul, 1) := dk_104 (dk_at dksX2_between_1 10 rfl rfl)
theorem dX2_between_35 : decode cX2_between 35 = .ok (.iadd, 1) := dk_96 (dk_at dksX2_between_1 11 rfl rfl)
theorem dX2_between_36 : decode cX2_between 36 = .ok (.iload 5, 2) := dk_21 5 (dk_at dksX2_between_1 12 rfl rfl)
theorem dX2_between_38 : decode cX2_between 38 = .ok (.iadd, 1) := dk_96 (dk_at dksX2_between_1 14 rfl rfl)
theorem dX2_between_39 : decode cX2_between 39 = .ok (.ireturn, 1) := dk_172 (dk_at dksX2_between_1 15 rfl rfl)
theorem dX2_between_40 : decode cX2_between 40 = .ok (.iload_n 3, 1) := dk_29 (dk_at dksX2_between_1 16 rfl rfl)
theorem dX2_between_41 : decode cX2_between 41 = .ok (.iconst 1, 1) := dk_4 (dk_at dksX2_between_1 17 rfl rfl)
theorem dX2_between_42 : decode cX2_between 42 = .ok (.if_icmp .ne 19, 3) := dk_160 0 19 (dk_at dksX2_between_1 18 rfl rfl)
theorem dX2_between_45 : decode cX2_between 45 = .ok (.iload 5, 2) := dk_21 5 (dk_at dksX2_between_1 21 rfl rfl)
theorem dX2_between_47 : decode cX2_between 47 = .ok (.iconst 2, 1) := dk_5 (dk_at dksX2_between_1 23 rfl rfl)
theorem dX2_between_48 : decode cX2_between 48 = .ok (.if_icmp .ge 13, 3) := dk_162 0 13 (dk_at dksX2_between_2 0 rfl rfl)
theorem dX2_between_51 : decode cX2_between 51 = .ok (.iconst 2, 1) := dk_5 (dk_at dksX2_between_2 3 rfl rfl)
theorem dX2_between_52 : decode cX2_between 52 = .ok (.iload 4, 2) := dk_21 4 (dk_at dksX2_between_2 4 rfl rfl)
theorem dX2_between_54 : decode cX2_between 54 = .ok (.imul, 1) := dk_104 (dk_at dksX2_between_2 6 rfl rfl)
theorem dX2_between_55 : decode cX2_between 55 = .ok (.iload 5, 2) := dk_21 5 (dk_at dksX2_between_2 7 rfl rfl)
theorem dX2_between_57 : decode cX2_between 57 = .ok (.iadd, 1) := dk_96 (dk_at dksX2_between_2 9 rfl rfl)
theorem dX2_between_58 : decode cX2_between 58 = .ok (.goto 4, 3) := dk_167 0 4 (dk_at dksX2_between_2 10 rfl rfl)
theorem dX2_between_61 : decode cX2_between 61 = .ok (.iconst (-1), 1) := dk_2 (dk_at dksX2_between_2 13 rfl rfl)
theorem dX2_between_62 : decode cX2_between 62 = .ok (.ireturn, 1) := dk_172 (dk_at dksX2_between_2 14 rfl rfl)
abbrev cX2_count : ByteArray := prog_6_method_12_code
def yX2_count : MethodName := ⟨RX2, "count", "(LPeacockLawns$Kind;)I"⟩
def dkwX2_count_2 : List UInt8 := [167, 0, 4, 3, 96, 61, 167, 255, 217, 28, 172]
abbrev dktX2_count_2 : List UInt8 := dkwX2_count_2 ++ []
def dkwX2_count_1 : List UInt8 := [185, 0, 137, 1, 0, 192, 0, 109, 58, 4, 28, 43, 25, 4, 185, 0, 141, 2, 0, 153, 0, 7, 4]
abbrev dktX2_count_1 : List UInt8 := dkwX2_count_1 ++ dktX2_count_2
def dkwX2_count_0 : List UInt8 := [3, 61, 42, 180, 0, 12, 185, 0, 127, 1, 0, 78, 45, 185, 0, 131, 1, 0, 153, 0, 36, 45]
abbrev dktX2_count_0 : List UInt8 := dkwX2_count_0 ++ dktX2_count_1
theorem dksX2_count_0 : cX2_count.data.toList.drop 0 = dktX2_count_0 := by decide +kernel
theorem dksX2_count_1 : cX2_count.data.toList.drop 22 = dktX2_count_1 := dk_seg dksX2_count_0 22 rfl rfl
theorem dksX2_count_2 : cX2_count.data.toList.drop 45 = dktX2_count_2 := dk_seg dksX2_count_1 23 rfl rfl
theorem dX2_count_0 : decode cX2_count 0 = .ok (.iconst 0, 1) := dk_3 (dk_at dksX2_count_0 0 rfl rfl)
theorem dX2_count_1 : decode cX2_count 1 = .ok (.istore_n 2, 1) := dk_61 (dk_at dksX2_count_0 1 rfl rfl)
theorem dX2_count_2 : decode cX2_count 2 = .ok (.aload_n 0, 1) := dk_42 (dk_at dksX2_count_0 2 rfl rfl)
theorem dX2_count_3 : decode cX2_count 3 = .ok (.getfield 12, 3) := dk_180 0 12 (dk_at dksX2_count_0 3 rfl rfl)
theorem dX2_count_6 : decode cX2_count 6 = .ok (.invokeinterface 127 1, 5) := by decide +kernel
theorem dX2_count_11 : decode cX2_count 11 = .ok (.astore_n 3, 1) := dk_78 (dk_at dksX2_count_0 11 rfl rfl)
theorem dX2_count_12 : decode cX2_count 12 = .ok (.aload_n 3, 1) := dk_45 (dk_at dksX2_count_0 12 rfl rfl)
theorem dX2_count_13 : decode cX2_count 13 = .ok (.invokeinterface 131 1, 5) := by decide +kernel
theorem dX2_count_18 : decode cX2_count 18 = .ok (.ifCond .eq 36, 3) := dk_153 0 36 (dk_at dksX2_count_0 18 rfl rfl)
theorem dX2_count_21 : decode cX2_count 21 = .ok (.aload_n 3, 1) := dk_45 (dk_at dksX2_count_0 21 rfl rfl)
theorem dX2_count_22 : decode cX2_count 22 = .ok (.invokeinterface 137 1, 5) := by decide +kernel
theorem dX2_count_27 : decode cX2_count 27 = .ok (.checkcast 109, 3) := dk_192 0 109 (dk_at dksX2_count_1 5 rfl rfl)
theorem dX2_count_30 : decode cX2_count 30 = .ok (.astore 4, 2) := dk_58 4 (dk_at dksX2_count_1 8 rfl rfl)
theorem dX2_count_32 : decode cX2_count 32 = .ok (.iload_n 2, 1) := dk_28 (dk_at dksX2_count_1 10 rfl rfl)
theorem dX2_count_33 : decode cX2_count 33 = .ok (.aload_n 1, 1) := dk_43 (dk_at dksX2_count_1 11 rfl rfl)
theorem dX2_count_34 : decode cX2_count 34 = .ok (.aload 4, 2) := dk_25 4 (dk_at dksX2_count_1 12 rfl rfl)
theorem dX2_count_36 : decode cX2_count 36 = .ok (.invokeinterface 141 2, 5) := by decide +kernel
theorem dX2_count_41 : decode cX2_count 41 = .ok (.ifCond .eq 7, 3) := dk_153 0 7 (dk_at dksX2_count_1 19 rfl rfl)
theorem dX2_count_44 : decode cX2_count 44 = .ok (.iconst 1, 1) := dk_4 (dk_at dksX2_count_1 22 rfl rfl)
theorem dX2_count_45 : decode cX2_count 45 = .ok (.goto 4, 3) := dk_167 0 4 (dk_at dksX2_count_2 0 rfl rfl)
theorem dX2_count_48 : decode cX2_count 48 = .ok (.iconst 0, 1) := dk_3 (dk_at dksX2_count_2 3 rfl rfl)
theorem dX2_count_49 : decode cX2_count 49 = .ok (.iadd, 1) := dk_96 (dk_at dksX2_count_2 4 rfl rfl)
theorem dX2_count_50 : decode cX2_count 50 = .ok (.istore_n 2, 1) := dk_61 (dk_at dksX2_count_2 5 rfl rfl)
theorem dX2_count_51 : decode cX2_count 51 = .ok (.goto (-39), 3) := dk_167 255 217 (dk_at dksX2_count_2 6 rfl rfl)
theorem dX2_count_54 : decode cX2_count 54 = .ok (.iload_n 2, 1) := dk_28 (dk_at dksX2_count_2 9 rfl rfl)
theorem dX2_count_55 : decode cX2_count 55 = .ok (.ireturn, 1) := dk_172 (dk_at dksX2_count_2 10 rfl rfl)
abbrev cX2_reached : ByteArray := prog_6_method_10_code
def yX2_reached : MethodName := ⟨RX2, "reached", "(III)I"⟩
def dkwX2_reached_3 : List UInt8 := [54, 4, 132, 5, 1, 167, 255, 190, 21, 4, 172]
abbrev dktX2_reached_3 : List UInt8 := dkwX2_reached_3 ++ []
def dkwX2_reached_2 : List UInt8 := [180, 0, 24, 21, 6, 46, 28, 163, 0, 15, 42, 21, 5, 28, 21, 4, 182, 0, 123, 167, 0, 5, 21, 4]
abbrev dktX2_reached_2 : List UInt8 := dkwX2_reached_2 ++ dktX2_reached_3
def dkwX2_reached_1 : List UInt8 := [4, 160, 0, 7, 2, 167, 0, 9, 27, 21, 5, 184, 0, 120, 54, 6, 21, 6, 2, 159, 0, 26, 42]
abbrev dktX2_reached_1 : List UInt8 := dkwX2_reached_1 ++ dktX2_reached_2
def dkwX2_reached_0 : List UInt8 := [29, 4, 27, 120, 128, 54, 4, 3, 54, 5, 21, 5, 16, 9, 162, 0, 65, 21, 4, 21, 5, 122, 4, 126]
abbrev dktX2_reached_0 : List UInt8 := dkwX2_reached_0 ++ dktX2_reached_1
theorem dksX2_reached_0 : cX2_reached.data.toList.drop 0 = dktX2_reached_0 := by decide +kernel
theorem dksX2_reached_1 : cX2_reached.data.toList.drop 24 = dktX2_reached_1 := dk_seg dksX2_reached_0 24 rfl rfl
theorem dksX2_reached_2 : cX2_reached.data.toList.drop 47 = dktX2_reached_2 := dk_seg dksX2_reached_1 23 rfl rfl
theorem dksX2_reached_3 : cX2_reached.data.toList.drop 71 = dktX2_reached_3 := dk_seg dksX2_reached_2 24 rfl rfl
theorem dX2_reached_0 : decode cX2_reached 0 = .ok (.iload_n 3, 1) := dk_29 (dk_at dksX2_reached_0 0 rfl rfl)
theorem dX2_reached_1 : decode cX2_reached 1 = .ok (.iconst 1, 1) := dk_4 (dk_at dksX2_reached_0 1 rfl rfl)
theorem dX2_reached_2 : decode cX2_reached 2 = .ok (.iload_n 1, 1) := dk_27 (dk_at dksX2_reached_0 2 rfl rfl)
theorem dX2_reached_3 : decode cX2_reached 3 = .ok (.ishl, 1) := dk_120 (dk_at dksX2_reached_0 3 rfl rfl)
theorem dX2_reached_4 : decode cX2_reached 4 = .ok (.ior, 1) := dk_128 (dk_at dksX2_reached_0 4 rfl rfl)
theorem dX2_reached_5 : decode cX2_reached 5 = .ok (.istore 4, 2) := dk_54 4 (dk_at dksX2_reached_0 5 rfl rfl)
theorem dX2_reached_7 : decode cX2_reached 7 = .ok (.iconst 0, 1) := dk_3 (dk_at dksX2_reached_0 7 rfl rfl)
theorem dX2_reached_8 : decode cX2_reached 8 = .ok (.istore 5, 2) := dk_54 5 (dk_at dksX2_reached_0 8 rfl rfl)
theorem dX2_reached_10 : decode cX2_reached 10 = .ok (.iload 5, 2) := dk_21 5 (dk_at dksX2_reached_0 10 rfl rfl)
theorem dX2_reached_12 : decode cX2_reached 12 = .ok (.bipush 9, 2) := dk_16 9 (dk_at dksX2_reached_0 12 rfl rfl)
theorem dX2_reached_14 : decode cX2_reached 14 = .ok (.if_icmp .ge 65, 3) := dk_162 0 65 (dk_at dksX2_reached_0 14 rfl rfl)
theorem dX2_reached_17 : decode cX2_reached 17 = .ok (.iload 4, 2) := dk_21 4 (dk_at dksX2_reached_0 17 rfl rfl)
theorem dX2_reached_19 : decode cX2_reached 19 = .ok (.iload 5, 2) := dk_21 5 (dk_at dksX2_reached_0 19 rfl rfl)
theorem dX2_reached_21 : decode cX2_reached 21 = .ok (.ishr, 1) := dk_122 (dk_at dksX2_reached_0 21 rfl rfl)
theorem dX2_reached_22 : decode cX2_reached 22 = .ok (.iconst 1, 1) := dk_4 (dk_at dksX2_reached_0 22 rfl rfl)
theorem dX2_reached_23 : decode cX2_reached 23 = .ok (.iand, 1) := dk_126 (dk_at dksX2_reached_0 23 rfl rfl)
theorem dX2_reached_24 : decode cX2_reached 24 = .ok (.iconst 1, 1) := dk_4 (dk_at dksX2_reached_1 0 rfl rfl)
theorem dX2_reached_25 : decode cX2_reached 25 = .ok (.if_icmp .ne 7, 3) := dk_160 0 7 (dk_at dksX2_reached_1 1 rfl rfl)
theorem dX2_reached_28 : decode cX2_reached 28 = .ok (.iconst (-1), 1) := dk_2 (dk_at dksX2_reached_1 4 rfl rfl)
theorem dX2_reached_29 : decode cX2_reached 29 = .ok (.goto 9, 3) := dk_167 0 9 (dk_at dksX2_reached_1 5 rfl rfl)
theorem dX2_reached_32 : decode cX2_reached 32 = .ok (.iload_n 1, 1) := dk_27 (dk_at dksX2_reached_1 8 rfl rfl)
theorem dX2_reached_33 : decode cX2_reached 33 = .ok (.iload 5, 2) := dk_21 5 (dk_at dksX2_reached_1 9 rfl rfl)
theorem dX2_reached_35 : decode cX2_reached 35 = .ok (.invokestatic 120, 3) := dk_184 0 120 (dk_at dksX2_reached_1 11 rfl rfl)
theorem dX2_reached_38 : decode cX2_reached 38 = .ok (.istore 6, 2) := dk_54 6 (dk_at dksX2_reached_1 14 rfl rfl)
theorem dX2_reached_40 : decode cX2_reached 40 = .ok (.iload 6, 2) := dk_21 6 (dk_at dksX2_reached_1 16 rfl rfl)
theorem dX2_reached_42 : decode cX2_reached 42 = .ok (.iconst (-1), 1) := dk_2 (dk_at dksX2_reached_1 18 rfl rfl)
theorem dX2_reached_43 : decode cX2_reached 43 = .ok (.if_icmp .eq 26, 3) := dk_159 0 26 (dk_at dksX2_reached_1 19 rfl rfl)
theorem dX2_reached_46 : decode cX2_reached 46 = .ok (.aload_n 0, 1) := dk_42 (dk_at dksX2_reached_1 22 rfl rfl)
theorem dX2_reached_47 : decode cX2_reached 47 = .ok (.getfield 24, 3) := dk_180 0 24 (dk_at dksX2_reached_2 0 rfl rfl)
theorem dX2_reached_50 : decode cX2_reached 50 = .ok (.iload 6, 2) := dk_21 6 (dk_at dksX2_reached_2 3 rfl rfl)
theorem dX2_reached_52 : decode cX2_reached 52 = .ok (.iaload, 1) := dk_46 (dk_at dksX2_reached_2 5 rfl rfl)
theorem dX2_reached_53 : decode cX2_reached 53 = .ok (.iload_n 2, 1) := dk_28 (dk_at dksX2_reached_2 6 rfl rfl)
theorem dX2_reached_54 : decode cX2_reached 54 = .ok (.if_icmp .gt 15, 3) := dk_163 0 15 (dk_at dksX2_reached_2 7 rfl rfl)
theorem dX2_reached_57 : decode cX2_reached 57 = .ok (.aload_n 0, 1) := dk_42 (dk_at dksX2_reached_2 10 rfl rfl)
theorem dX2_reached_58 : decode cX2_reached 58 = .ok (.iload 5, 2) := dk_21 5 (dk_at dksX2_reached_2 11 rfl rfl)
theorem dX2_reached_60 : decode cX2_reached 60 = .ok (.iload_n 2, 1) := dk_28 (dk_at dksX2_reached_2 13 rfl rfl)
theorem dX2_reached_61 : decode cX2_reached 61 = .ok (.iload 4, 2) := dk_21 4 (dk_at dksX2_reached_2 14 rfl rfl)
theorem dX2_reached_63 : decode cX2_reached 63 = .ok (.invokevirtual 123, 3) := dk_182 0 123 (dk_at dksX2_reached_2 16 rfl rfl)
theorem dX2_reached_66 : decode cX2_reached 66 = .ok (.goto 5, 3) := dk_167 0 5 (dk_at dksX2_reached_2 19 rfl rfl)
theorem dX2_reached_69 : decode cX2_reached 69 = .ok (.iload 4, 2) := dk_21 4 (dk_at dksX2_reached_2 22 rfl rfl)
theorem dX2_reached_71 : decode cX2_reached 71 = .ok (.istore 4, 2) := dk_54 4 (dk_at dksX2_reached_3 0 rfl rfl)
theorem dX2_reached_73 : decode cX2_reached 73 = .ok (.iinc 5 1, 3) := dk_132 5 1 (dk_at dksX2_reached_3 2 rfl rfl)
theorem dX2_reached_76 : decode cX2_reached 76 = .ok (.goto (-66), 3) := dk_167 255 190 (dk_at dksX2_reached_3 5 rfl rfl)
theorem dX2_reached_79 : decode cX2_reached 79 = .ok (.iload 4, 2) := dk_21 4 (dk_at dksX2_reached_3 8 rfl rfl)
theorem dX2_reached_81 : decode cX2_reached 81 = .ok (.ireturn, 1) := dk_172 (dk_at dksX2_reached_3 10 rfl rfl)
abbrev cX2_reachedAgain : ByteArray := prog_6_method_11_code
def yX2_reachedAgain : MethodName := ⟨RX2, "reachedAgain", "(II)I"⟩
def dkwX2_reachedAgain_4 : List UInt8 := [132, 6, 1, 167, 255, 188, 132, 5, 1, 167, 255, 172, 167, 255, 157, 29, 172]
abbrev dktX2_reachedAgain_4 : List UInt8 := dkwX2_reachedAgain_4 ++ []
def dkwX2_reachedAgain_3 : List UInt8 := [159, 0, 21, 42, 180, 0, 24, 21, 7, 46, 28, 163, 0, 10, 4, 21, 6, 120, 167, 0, 4, 3, 128, 62]
abbrev dktX2_reachedAgain_3 : List UInt8 := dkwX2_reachedAgain_3 ++ dktX2_reachedAgain_4
def dkwX2_reachedAgain_2 : List UInt8 := [21, 5, 21, 6, 159, 0, 13, 21, 5, 21, 6, 184, 0, 120, 167, 0, 4, 2, 54, 7, 29, 21, 7, 2]
abbrev dktX2_reachedAgain_2 : List UInt8 := dkwX2_reachedAgain_2 ++ dktX2_reachedAgain_3
def dkwX2_reachedAgain_1 : List UInt8 := [162, 0, 83, 3, 54, 6, 21, 6, 16, 9, 162, 0, 67, 29, 21, 5, 122, 4, 126, 4, 160, 0, 20]
abbrev dktX2_reachedAgain_1 : List UInt8 := dkwX2_reachedAgain_1 ++ dktX2_reachedAgain_2
def dkwX2_reachedAgain_0 : List UInt8 := [4, 27, 120, 62, 3, 54, 4, 29, 21, 4, 159, 0, 99, 29, 54, 4, 3, 54, 5, 21, 5, 16, 9]
abbrev dktX2_reachedAgain_0 : List UInt8 := dkwX2_reachedAgain_0 ++ dktX2_reachedAgain_1
theorem dksX2_reachedAgain_0 : cX2_reachedAgain.data.toList.drop 0 = dktX2_reachedAgain_0 := by decide +kernel
theorem dksX2_reachedAgain_1 : cX2_reachedAgain.data.toList.drop 23 = dktX2_reachedAgain_1 := dk_seg dksX2_reachedAgain_0 23 rfl rfl
theorem dksX2_reachedAgain_2 : cX2_reachedAgain.data.toList.drop 46 = dktX2_reachedAgain_2 := dk_seg dksX2_reachedAgain_1 23 rfl rfl
theorem dksX2_reachedAgain_3 : cX2_reachedAgain.data.toList.drop 70 = dktX2_reachedAgain_3 := dk_seg dksX2_reachedAgain_2 24 rfl rfl
theorem dksX2_reachedAgain_4 : cX2_reachedAgain.data.toList.drop 94 = dktX2_reachedAgain_4 := dk_seg dksX2_reachedAgain_3 24 rfl rfl
theorem dX2_reachedAgain_0 : decode cX2_reachedAgain 0 = .ok (.iconst 1, 1) := dk_4 (dk_at dksX2_reachedAgain_0 0 rfl rfl)
theorem dX2_reachedAgain_1 : decode cX2_reachedAgain 1 = .ok (.iload_n 1, 1) := dk_27 (dk_at dksX2_reachedAgain_0 1 rfl rfl)
theorem dX2_reachedAgain_2 : decode cX2_reachedAgain 2 = .ok (.ishl, 1) := dk_120 (dk_at dksX2_reachedAgain_0 2 rfl rfl)
theorem dX2_reachedAgain_3 : decode cX2_reachedAgain 3 = .ok (.istore_n 3, 1) := dk_62 (dk_at dksX2_reachedAgain_0 3 rfl rfl)
theorem dX2_reachedAgain_4 : decode cX2_reachedAgain 4 = .ok (.iconst 0, 1) := dk_3 (dk_at dksX2_reachedAgain_0 4 rfl rfl)
theorem dX2_reachedAgain_5 : decode cX2_reachedAgain 5 = .ok (.istore 4, 2) := dk_54 4 (dk_at dksX2_reachedAgain_0 5 rfl rfl)
theorem dX2_reachedAgain_7 : decode cX2_reachedAgain 7 = .ok (.iload_n 3, 1) := dk_29 (dk_at dksX2_reachedAgain_0 7 rfl rfl)
theorem dX2_reachedAgain_8 : decode cX2_reachedAgain 8 = .ok (.iload 4, 2) := dk_21 4 (dk_at dksX2_reachedAgain_0 8 rfl rfl)
theorem dX2_reachedAgain_10 : decode cX2_reachedAgain 10 = .ok (.if_icmp .eq 99, 3) := dk_159 0 99 (dk_at dksX2_reachedAgain_0 10 rfl rfl)
theorem dX2_reachedAgain_13 : decode cX2_reachedAgain 13 = .ok (.iload_n 3, 1) := dk_29 (dk_at dksX2_reachedAgain_0 13 rfl rfl)
theorem dX2_reachedAgain_14 : decode cX2_reachedAgain 14 = .ok (.istore 4, 2) := dk_54 4 (dk_at dksX2_reachedAgain_0 14 rfl rfl)
theorem dX2_reachedAgain_16 : decode cX2_reachedAgain 16 = .ok (.iconst 0, 1) := dk_3 (dk_at dksX2_reachedAgain_0 16 rfl rfl)
theorem dX2_reachedAgain_17 : decode cX2_reachedAgain 17 = .ok (.istore 5, 2) := dk_54 5 (dk_at dksX2_reachedAgain_0 17 rfl rfl)
theorem dX2_reachedAgain_19 : decode cX2_reachedAgain 19 = .ok (.iload 5, 2) := dk_21 5 (dk_at dksX2_reachedAgain_0 19 rfl rfl)
theorem dX2_reachedAgain_21 : decode cX2_reachedAgain 21 = .ok (.bipush 9, 2) := dk_16 9 (dk_at dksX2_reachedAgain_0 21 rfl rfl)
theorem dX2_reachedAgain_23 : decode cX2_reachedAgain 23 = .ok (.if_icmp .ge 83, 3) := dk_162 0 83 (dk_at dksX2_reachedAgain_1 0 rfl rfl)
theorem dX2_reachedAgain_26 : decode cX2_reachedAgain 26 = .ok (.iconst 0, 1) := dk_3 (dk_at dksX2_reachedAgain_1 3 rfl rfl)
theorem dX2_reachedAgain_27 : decode cX2_reachedAgain 27 = .ok (.istore 6, 2) := dk_54 6 (dk_at dksX2_reachedAgain_1 4 rfl rfl)
theorem dX2_reachedAgain_29 : decode cX2_reachedAgain 29 = .ok (.iload 6, 2) := dk_21 6 (dk_at dksX2_reachedAgain_1 6 rfl rfl)
theorem dX2_reachedAgain_31 : decode cX2_reachedAgain 31 = .ok (.bipush 9, 2) := dk_16 9 (dk_at dksX2_reachedAgain_1 8 rfl rfl)
theorem dX2_reachedAgain_33 : decode cX2_reachedAgain 33 = .ok (.if_icmp .ge 67, 3) := dk_162 0 67 (dk_at dksX2_reachedAgain_1 10 rfl rfl)
theorem dX2_reachedAgain_36 : decode cX2_reachedAgain 36 = .ok (.iload_n 3, 1) := dk_29 (dk_at dksX2_reachedAgain_1 13 rfl rfl)
theorem dX2_reachedAgain_37 : decode cX2_reachedAgain 37 = .ok (.iload 5, 2) := dk_21 5 (dk_at dksX2_reachedAgain_1 14 rfl rfl)
theorem dX2_reachedAgain_39 : decode cX2_reachedAgain 39 = .ok (.ishr, 1) := dk_122 (dk_at dksX2_reachedAgain_1 16 rfl rfl)
theorem dX2_reachedAgain_40 : decode cX2_reachedAgain 40 = .ok (.iconst 1, 1) := dk_4 (dk_at dksX2_reachedAgain_1 17 rfl rfl)
theorem dX2_reachedAgain_41 : decode cX2_reachedAgain 41 = .ok (.iand, 1) := dk_126 (dk_at dksX2_reachedAgain_1 18 rfl rfl)
theorem dX2_reachedAgain_42 : decode cX2_reachedAgain 42 = .ok (.iconst 1, 1) := dk_4 (dk_at dksX2_reachedAgain_1 19 rfl rfl)
theorem dX2_reachedAgain_43 : decode cX2_reachedAgain 43 = .ok (.if_icmp .ne 20, 3) := dk_160 0 20 (dk_at dksX2_reachedAgain_1 20 rfl rfl)
theorem dX2_reachedAgain_46 : decode cX2_reachedAgain 46 = .ok (.iload 5, 2) := dk_21 5 (dk_at dksX2_reachedAgain_2 0 rfl rfl)
theorem dX2_reachedAgain_48 : decode cX2_reachedAgain 48 = .ok (.iload 6, 2) := dk_21 6 (dk_at dksX2_reachedAgain_2 2 rfl rfl)
theorem dX2_reachedAgain_50 : decode cX2_reachedAgain 50 = .ok (.if_icmp .eq 13, 3) := dk_159 0 13 (dk_at dksX2_reachedAgain_2 4 rfl rfl)
theorem dX2_reachedAgain_53 : decode cX2_reachedAgain 53 = .ok (.iload 5, 2) := dk_21 5 (dk_at dksX2_reachedAgain_2 7 rfl rfl)
theorem dX2_reachedAgain_55 : decode cX2_reachedAgain 55 = .ok (.iload 6, 2) := dk_21 6 (dk_at dksX2_reachedAgain_2 9 rfl rfl)
theorem dX2_reachedAgain_57 : decode cX2_reachedAgain 57 = .ok (.invokestatic 120, 3) := dk_184 0 120 (dk_at dksX2_reachedAgain_2 11 rfl rfl)
theorem dX2_reachedAgain_60 : decode cX2_reachedAgain 60 = .ok (.goto 4, 3) := dk_167 0 4 (dk_at dksX2_reachedAgain_2 14 rfl rfl)
theorem dX2_reachedAgain_63 : decode cX2_reachedAgain 63 = .ok (.iconst (-1), 1) := dk_2 (dk_at dksX2_reachedAgain_2 17 rfl rfl)
theorem dX2_reachedAgain_64 : decode cX2_reachedAgain 64 = .ok (.istore 7, 2) := dk_54 7 (dk_at dksX2_reachedAgain_2 18 rfl rfl)
theorem dX2_reachedAgain_66 : decode cX2_reachedAgain 66 = .ok (.iload_n 3, 1) := dk_29 (dk_at dksX2_reachedAgain_2 20 rfl rfl)
theorem dX2_reachedAgain_67 : decode cX2_reachedAgain 67 = .ok (.iload 7, 2) := dk_21 7 (dk_at dksX2_reachedAgain_2 21 rfl rfl)
theorem dX2_reachedAgain_69 : decode cX2_reachedAgain 69 = .ok (.iconst (-1), 1) := dk_2 (dk_at dksX2_reachedAgain_2 23 rfl rfl)
theorem dX2_reachedAgain_70 : decode cX2_reachedAgain 70 = .ok (.if_icmp .eq 21, 3) := dk_159 0 21 (dk_at dksX2_reachedAgain_3 0 rfl rfl)
theorem dX2_reachedAgain_73 : decode cX2_reachedAgain 73 = .ok (.aload_n 0, 1) := dk_42 (dk_at dksX2_reachedAgain_3 3 rfl rfl)
theorem dX2_reachedAgain_74 : decode cX2_reachedAgain 74 = .ok (.getfield 24, 3) := dk_180 0 24 (dk_at dksX2_reachedAgain_3 4 rfl rfl)
theorem dX2_reachedAgain_77 : decode cX2_reachedAgain 77 = .ok (.iload 7, 2) := dk_21 7 (dk_at dksX2_reachedAgain_3 7 rfl rfl)
theorem dX2_reachedAgain_79 : decode cX2_reachedAgain 79 = .ok (.iaload, 1) := dk_46 (dk_at dksX2_reachedAgain_3 9 rfl rfl)
theorem dX2_reachedAgain_80 : decode cX2_reachedAgain 80 = .ok (.iload_n 2, 1) := dk_28 (dk_at dksX2_reachedAgain_3 10 rfl rfl)
theorem dX2_reachedAgain_81 : decode cX2_reachedAgain 81 = .ok (.if_icmp .gt 10, 3) := dk_163 0 10 (dk_at dksX2_reachedAgain_3 11 rfl rfl)
theorem dX2_reachedAgain_84 : decode cX2_reachedAgain 84 = .ok (.iconst 1, 1) := dk_4 (dk_at dksX2_reachedAgain_3 14 rfl rfl)
theorem dX2_reachedAgain_85 : decode cX2_reachedAgain 85 = .ok (.iload 6, 2) := dk_21 6 (dk_at dksX2_reachedAgain_3 15 rfl rfl)
theorem dX2_reachedAgain_87 : decode cX2_reachedAgain 87 = .ok (.ishl, 1) := dk_120 (dk_at dksX2_reachedAgain_3 17 rfl rfl)
theorem dX2_reachedAgain_88 : decode cX2_reachedAgain 88 = .ok (.goto 4, 3) := dk_167 0 4 (dk_at dksX2_reachedAgain_3 18 rfl rfl)
theorem dX2_reachedAgain_91 : decode cX2_reachedAgain 91 = .ok (.iconst 0, 1) := dk_3 (dk_at dksX2_reachedAgain_3 21 rfl rfl)
theorem dX2_reachedAgain_92 : decode cX2_reachedAgain 92 = .ok (.ior, 1) := dk_128 (dk_at dksX2_reachedAgain_3 22 rfl rfl)
theorem dX2_reachedAgain_93 : decode cX2_reachedAgain 93 = .ok (.istore_n 3, 1) := dk_62 (dk_at dksX2_reachedAgain_3 23 rfl rfl)
theorem dX2_reachedAgain_94 : decode cX2_reachedAgain 94 = .ok (.iinc 6 1, 3) := dk_132 6 1 (dk_at dksX2_reachedAgain_4 0 rfl rfl)
theorem dX2_reachedAgain_97 : decode cX2_reachedAgain 97 = .ok (.goto (-68), 3) := dk_167 255 188 (dk_at dksX2_reachedAgain_4 3 rfl rfl)
theorem dX2_reachedAgain_100 : decode cX2_reachedAgain 100 = .ok (.iinc 5 1, 3) := dk_132 5 1 (dk_at dksX2_reachedAgain_4 6 rfl rfl)
theorem dX2_reachedAgain_103 : decode cX2_reachedAgain 103 = .ok (.goto (-84), 3) := dk_167 255 172 (dk_at dksX2_reachedAgain_4 9 rfl rfl)
theorem dX2_reachedAgain_106 : decode cX2_reachedAgain 106 = .ok (.goto (-99), 3) := dk_167 255 157 (dk_at dksX2_reachedAgain_4 12 rfl rfl)
theorem dX2_reachedAgain_109 : decode cX2_reachedAgain 109 = .ok (.iload_n 3, 1) := dk_29 (dk_at dksX2_reachedAgain_4 15 rfl rfl)
theorem dX2_reachedAgain_110 : decode cX2_reachedAgain 110 = .ok (.ireturn, 1) := dk_172 (dk_at dksX2_reachedAgain_4 16 rfl rfl)
abbrev cX2_walk : ByteArray := prog_6_method_20_code
def yX2_walk : MethodName := ⟨RX2, "walk", "(II)I"⟩
def dkwX2_walk_4 : List UInt8 := [192, 0, 207, 58, 6, 45, 180, 0, 213, 21, 5, 100, 172]
abbrev dktX2_walk_4 : List UInt8 := dkwX2_walk_4 ++ []
def dkwX2_walk_3 : List UInt8 := [100, 184, 0, 97, 42, 180, 0, 18, 27, 45, 21, 4, 21, 5, 182, 0, 216, 185, 0, 105, 3, 0]
abbrev dktX2_walk_3 : List UInt8 := dkwX2_walk_3 ++ dktX2_walk_4
def dkwX2_walk_2 : List UInt8 := [54, 5, 45, 180, 0, 213, 21, 5, 161, 0, 7, 4, 167, 0, 4, 3, 16, 6, 21, 5, 45, 180, 0, 213]
abbrev dktX2_walk_2 : List UInt8 := dkwX2_walk_2 ++ dktX2_walk_3
def dkwX2_walk_1 : List UInt8 := [180, 0, 209, 6, 108, 100, 184, 0, 210, 21, 4, 6, 112, 45, 180, 0, 209, 6, 112, 100, 184, 0, 210, 96]
abbrev dktX2_walk_1 : List UInt8 := dkwX2_walk_1 ++ dktX2_walk_2
def dkwX2_walk_0 : List UInt8 := [42, 180, 0, 18, 27, 184, 0, 170, 192, 0, 207, 78, 28, 184, 0, 156, 54, 4, 21, 4, 6, 108, 45]
abbrev dktX2_walk_0 : List UInt8 := dkwX2_walk_0 ++ dktX2_walk_1
theorem dksX2_walk_0 : cX2_walk.data.toList.drop 0 = dktX2_walk_0 := by decide +kernel
theorem dksX2_walk_1 : cX2_walk.data.toList.drop 23 = dktX2_walk_1 := dk_seg dksX2_walk_0 23 rfl rfl
theorem dksX2_walk_2 : cX2_walk.data.toList.drop 47 = dktX2_walk_2 := dk_seg dksX2_walk_1 24 rfl rfl
theorem dksX2_walk_3 : cX2_walk.data.toList.drop 71 = dktX2_walk_3 := dk_seg dksX2_walk_2 24 rfl rfl
theorem dksX2_walk_4 : cX2_walk.data.toList.drop 93 = dktX2_walk_4 := dk_seg dksX2_walk_3 22 rfl rfl
theorem dX2_walk_0 : decode cX2_walk 0 = .ok (.aload_n 0, 1) := dk_42 (dk_at dksX2_walk_0 0 rfl rfl)
theorem dX2_walk_1 : decode cX2_walk 1 = .ok (.getfield 18, 3) := dk_180 0 18 (dk_at dksX2_walk_0 1 rfl rfl)
theorem dX2_walk_4 : decode cX2_walk 4 = .ok (.iload_n 1, 1) := dk_27 (dk_at dksX2_walk_0 4 rfl rfl)
theorem dX2_walk_5 : decode cX2_walk 5 = .ok (.invokestatic 170, 3) := dk_184 0 170 (dk_at dksX2_walk_0 5 rfl rfl)
theorem dX2_walk_8 : decode cX2_walk 8 = .ok (.checkcast 207, 3) := dk_192 0 207 (dk_at dksX2_walk_0 8 rfl rfl)
theorem dX2_walk_11 : decode cX2_walk 11 = .ok (.astore_n 3, 1) := dk_78 (dk_at dksX2_walk_0 11 rfl rfl)
theorem dX2_walk_12 : decode cX2_walk 12 = .ok (.iload_n 2, 1) := dk_28 (dk_at dksX2_walk_0 12 rfl rfl)
theorem dX2_walk_13 : decode cX2_walk 13 = .ok (.invokestatic 156, 3) := dk_184 0 156 (dk_at dksX2_walk_0 13 rfl rfl)
theorem dX2_walk_16 : decode cX2_walk 16 = .ok (.istore 4, 2) := dk_54 4 (dk_at dksX2_walk_0 16 rfl rfl)
theorem dX2_walk_18 : decode cX2_walk 18 = .ok (.iload 4, 2) := dk_21 4 (dk_at dksX2_walk_0 18 rfl rfl)
theorem dX2_walk_20 : decode cX2_walk 20 = .ok (.iconst 3, 1) := dk_6 (dk_at dksX2_walk_0 20 rfl rfl)
theorem dX2_walk_21 : decode cX2_walk 21 = .ok (.idiv, 1) := dk_108 (dk_at dksX2_walk_0 21 rfl rfl)
theorem dX2_walk_22 : decode cX2_walk 22 = .ok (.aload_n 3, 1) := dk_45 (dk_at dksX2_walk_0 22 rfl rfl)
theorem dX2_walk_23 : decode cX2_walk 23 = .ok (.getfield 209, 3) := dk_180 0 209 (dk_at dksX2_walk_1 0 rfl rfl)
theorem dX2_walk_26 : decode cX2_walk 26 = .ok (.iconst 3, 1) := dk_6 (dk_at dksX2_walk_1 3 rfl rfl)
theorem dX2_walk_27 : decode cX2_walk 27 = .ok (.idiv, 1) := dk_108 (dk_at dksX2_walk_1 4 rfl rfl)
theorem dX2_walk_28 : decode cX2_walk 28 = .ok (.isub, 1) := dk_100 (dk_at dksX2_walk_1 5 rfl rfl)
theorem dX2_walk_29 : decode cX2_walk 29 = .ok (.invokestatic 210, 3) := dk_184 0 210 (dk_at dksX2_walk_1 6 rfl rfl)
theorem dX2_walk_32 : decode cX2_walk 32 = .ok (.iload 4, 2) := dk_21 4 (dk_at dksX2_walk_1 9 rfl rfl)
theorem dX2_walk_34 : decode cX2_walk 34 = .ok (.iconst 3, 1) := dk_6 (dk_at dksX2_walk_1 11 rfl rfl)
theorem dX2_walk_35 : decode cX2_walk 35 = .ok (.irem, 1) := dk_112 (dk_at dksX2_walk_1 12 rfl rfl)
theorem dX2_walk_36 : decode cX2_walk 36 = .ok (.aload_n 3, 1) := dk_45 (dk_at dksX2_walk_1 13 rfl rfl)
theorem dX2_walk_37 : decode cX2_walk 37 = .ok (.getfield 209, 3) := dk_180 0 209 (dk_at dksX2_walk_1 14 rfl rfl)
theorem dX2_walk_40 : decode cX2_walk 40 = .ok (.iconst 3, 1) := dk_6 (dk_at dksX2_walk_1 17 rfl rfl)
theorem dX2_walk_41 : decode cX2_walk 41 = .ok (.irem, 1) := dk_112 (dk_at dksX2_walk_1 18 rfl rfl)
theorem dX2_walk_42 : decode cX2_walk 42 = .ok (.isub, 1) := dk_100 (dk_at dksX2_walk_1 19 rfl rfl)
theorem dX2_walk_43 : decode cX2_walk 43 = .ok (.invokestatic 210, 3) := dk_184 0 210 (dk_at dksX2_walk_1 20 rfl rfl)
theorem dX2_walk_46 : decode cX2_walk 46 = .ok (.iadd, 1) := dk_96 (dk_at dksX2_walk_1 23 rfl rfl)
theorem dX2_walk_47 : decode cX2_walk 47 = .ok (.istore 5, 2) := dk_54 5 (dk_at dksX2_walk_2 0 rfl rfl)
theorem dX2_walk_49 : decode cX2_walk 49 = .ok (.aload_n 3, 1) := dk_45 (dk_at dksX2_walk_2 2 rfl rfl)
theorem dX2_walk_50 : decode cX2_walk 50 = .ok (.getfield 213, 3) := dk_180 0 213 (dk_at dksX2_walk_2 3 rfl rfl)
theorem dX2_walk_53 : decode cX2_walk 53 = .ok (.iload 5, 2) := dk_21 5 (dk_at dksX2_walk_2 6 rfl rfl)
theorem dX2_walk_55 : decode cX2_walk 55 = .ok (.if_icmp .lt 7, 3) := dk_161 0 7 (dk_at dksX2_walk_2 8 rfl rfl)
theorem dX2_walk_58 : decode cX2_walk 58 = .ok (.iconst 1, 1) := dk_4 (dk_at dksX2_walk_2 11 rfl rfl)
theorem dX2_walk_59 : decode cX2_walk 59 = .ok (.goto 4, 3) := dk_167 0 4 (dk_at dksX2_walk_2 12 rfl rfl)
theorem dX2_walk_62 : decode cX2_walk 62 = .ok (.iconst 0, 1) := dk_3 (dk_at dksX2_walk_2 15 rfl rfl)
theorem dX2_walk_63 : decode cX2_walk 63 = .ok (.bipush 6, 2) := dk_16 6 (dk_at dksX2_walk_2 16 rfl rfl)
theorem dX2_walk_65 : decode cX2_walk 65 = .ok (.iload 5, 2) := dk_21 5 (dk_at dksX2_walk_2 18 rfl rfl)
theorem dX2_walk_67 : decode cX2_walk 67 = .ok (.aload_n 3, 1) := dk_45 (dk_at dksX2_walk_2 20 rfl rfl)
theorem dX2_walk_68 : decode cX2_walk 68 = .ok (.getfield 213, 3) := dk_180 0 213 (dk_at dksX2_walk_2 21 rfl rfl)
theorem dX2_walk_71 : decode cX2_walk 71 = .ok (.isub, 1) := dk_100 (dk_at dksX2_walk_3 0 rfl rfl)
theorem dX2_walk_72 : decode cX2_walk 72 = .ok (.invokestatic 97, 3) := dk_184 0 97 (dk_at dksX2_walk_3 1 rfl rfl)
theorem dX2_walk_75 : decode cX2_walk 75 = .ok (.aload_n 0, 1) := dk_42 (dk_at dksX2_walk_3 4 rfl rfl)
theorem dX2_walk_76 : decode cX2_walk 76 = .ok (.getfield 18, 3) := dk_180 0 18 (dk_at dksX2_walk_3 5 rfl rfl)
theorem dX2_walk_79 : decode cX2_walk 79 = .ok (.iload_n 1, 1) := dk_27 (dk_at dksX2_walk_3 8 rfl rfl)
theorem dX2_walk_80 : decode cX2_walk 80 = .ok (.aload_n 3, 1) := dk_45 (dk_at dksX2_walk_3 9 rfl rfl)
theorem dX2_walk_81 : decode cX2_walk 81 = .ok (.iload 4, 2) := dk_21 4 (dk_at dksX2_walk_3 10 rfl rfl)
theorem dX2_walk_83 : decode cX2_walk 83 = .ok (.iload 5, 2) := dk_21 5 (dk_at dksX2_walk_3 12 rfl rfl)
theorem dX2_walk_85 : decode cX2_walk 85 = .ok (.invokevirtual 216, 3) := dk_182 0 216 (dk_at dksX2_walk_3 14 rfl rfl)
theorem dX2_walk_88 : decode cX2_walk 88 = .ok (.invokeinterface 105 3, 5) := by decide +kernel
theorem dX2_walk_93 : decode cX2_walk 93 = .ok (.checkcast 207, 3) := dk_192 0 207 (dk_at dksX2_walk_4 0 rfl rfl)
theorem dX2_walk_96 : decode cX2_walk 96 = .ok (.astore 6, 2) := dk_58 6 (dk_at dksX2_walk_4 3 rfl rfl)
theorem dX2_walk_98 : decode cX2_walk 98 = .ok (.aload_n 3, 1) := dk_45 (dk_at dksX2_walk_4 5 rfl rfl)
theorem dX2_walk_99 : decode cX2_walk 99 = .ok (.getfield 213, 3) := dk_180 0 213 (dk_at dksX2_walk_4 6 rfl rfl)
theorem dX2_walk_102 : decode cX2_walk 102 = .ok (.iload 5, 2) := dk_21 5 (dk_at dksX2_walk_4 9 rfl rfl)
theorem dX2_walk_104 : decode cX2_walk 104 = .ok (.isub, 1) := dk_100 (dk_at dksX2_walk_4 11 rfl rfl)
theorem dX2_walk_105 : decode cX2_walk 105 = .ok (.ireturn, 1) := dk_172 (dk_at dksX2_walk_4 12 rfl rfl)
abbrev cX2_shear : ByteArray := prog_6_method_22_code
def yX2_shear : MethodName := ⟨RX2, "shear", "(III)I"⟩
def dkwX2_shear_6 : List UInt8 := [21, 5, 172]
abbrev dktX2_shear_6 : List UInt8 := dkwX2_shear_6 ++ []
def dkwX2_shear_5 : List UInt8 := [42, 180, 0, 18, 27, 25, 4, 21, 5, 21, 6, 182, 0, 224, 185, 0, 105, 3, 0, 192, 0, 207, 58, 7]
abbrev dktX2_shear_5 : List UInt8 := dkwX2_shear_5 ++ dktX2_shear_6
def dkwX2_shear_4 : List UInt8 := [167, 0, 4, 3, 16, 6, 21, 6, 25, 4, 180, 0, 213, 100, 184, 0, 97, 42, 180, 0, 24, 28, 29, 79]
abbrev dktX2_shear_4 : List UInt8 := dkwX2_shear_4 ++ dktX2_shear_5
def dkwX2_shear_3 : List UInt8 := [28, 46, 184, 0, 97, 21, 5, 6, 96, 7, 108, 54, 6, 25, 4, 180, 0, 213, 21, 6, 161, 0, 7, 4]
abbrev dktX2_shear_3 : List UInt8 := dkwX2_shear_3 ++ dktX2_shear_4
def dkwX2_shear_2 : List UInt8 := [180, 0, 24, 28, 46, 29, 100, 54, 5, 21, 5, 158, 0, 7, 4, 167, 0, 4, 3, 8, 42, 180, 0, 24]
abbrev dktX2_shear_2 : List UInt8 := dkwX2_shear_2 ++ dktX2_shear_3
def dkwX2_shear_1 : List UInt8 := [3, 16, 20, 184, 0, 85, 184, 0, 160, 28, 25, 4, 180, 0, 209, 184, 0, 220, 7, 28, 184, 0, 97, 42]
abbrev dktX2_shear_1 : List UInt8 := dkwX2_shear_1 ++ dktX2_shear_2
def dkwX2_shear_0 : List UInt8 := [42, 180, 0, 18, 27, 184, 0, 170, 192, 0, 207, 58, 4, 28, 3, 16, 11, 184, 0, 85, 184, 0, 89, 29]
abbrev dktX2_shear_0 : List UInt8 := dkwX2_shear_0 ++ dktX2_shear_1
theorem dksX2_shear_0 : cX2_shear.data.toList.drop 0 = dktX2_shear_0 := by decide +kernel
theorem dksX2_shear_1 : cX2_shear.data.toList.drop 24 = dktX2_shear_1 := dk_seg dksX2_shear_0 24 rfl rfl
theorem dksX2_shear_2 : cX2_shear.data.toList.drop 48 = dktX2_shear_2 := dk_seg dksX2_shear_1 24 rfl rfl
theorem dksX2_shear_3 : cX2_shear.data.toList.drop 72 = dktX2_shear_3 := dk_seg dksX2_shear_2 24 rfl rfl
theorem dksX2_shear_4 : cX2_shear.data.toList.drop 96 = dktX2_shear_4 := dk_seg dksX2_shear_3 24 rfl rfl
theorem dksX2_shear_5 : cX2_shear.data.toList.drop 120 = dktX2_shear_5 := dk_seg dksX2_shear_4 24 rfl rfl
theorem dksX2_shear_6 : cX2_shear.data.toList.drop 144 = dktX2_shear_6 := dk_seg dksX2_shear_5 24 rfl rfl
theorem dX2_shear_0 : decode cX2_shear 0 = .ok (.aload_n 0, 1) := dk_42 (dk_at dksX2_shear_0 0 rfl rfl)
theorem dX2_shear_1 : decode cX2_shear 1 = .ok (.getfield 18, 3) := dk_180 0 18 (dk_at dksX2_shear_0 1 rfl rfl)
theorem dX2_shear_4 : decode cX2_shear 4 = .ok (.iload_n 1, 1) := dk_27 (dk_at dksX2_shear_0 4 rfl rfl)
theorem dX2_shear_5 : decode cX2_shear 5 = .ok (.invokestatic 170, 3) := dk_184 0 170 (dk_at dksX2_shear_0 5 rfl rfl)
theorem dX2_shear_8 : decode cX2_shear 8 = .ok (.checkcast 207, 3) := dk_192 0 207 (dk_at dksX2_shear_0 8 rfl rfl)
theorem dX2_shear_11 : decode cX2_shear 11 = .ok (.astore 4, 2) := dk_58 4 (dk_at dksX2_shear_0 11 rfl rfl)
theorem dX2_shear_13 : decode cX2_shear 13 = .ok (.iload_n 2, 1) := dk_28 (dk_at dksX2_shear_0 13 rfl rfl)
theorem dX2_shear_14 : decode cX2_shear 14 = .ok (.iconst 0, 1) := dk_3 (dk_at dksX2_shear_0 14 rfl rfl)
theorem dX2_shear_15 : decode cX2_shear 15 = .ok (.bipush 11, 2) := dk_16 11 (dk_at dksX2_shear_0 15 rfl rfl)
theorem dX2_shear_17 : decode cX2_shear 17 = .ok (.invokestatic 85, 3) := dk_184 0 85 (dk_at dksX2_shear_0 17 rfl rfl)
theorem dX2_shear_20 : decode cX2_shear 20 = .ok (.invokestatic 89, 3) := dk_184 0 89 (dk_at dksX2_shear_0 20 rfl rfl)
theorem dX2_shear_23 : decode cX2_shear 23 = .ok (.iload_n 3, 1) := dk_29 (dk_at dksX2_shear_0 23 rfl rfl)
theorem dX2_shear_24 : decode cX2_shear 24 = .ok (.iconst 0, 1) := dk_3 (dk_at dksX2_shear_1 0 rfl rfl)
theorem dX2_shear_25 : decode cX2_shear 25 = .ok (.bipush 20, 2) := dk_16 20 (dk_at dksX2_shear_1 1 rfl rfl)
theorem dX2_shear_27 : decode cX2_shear 27 = .ok (.invokestatic 85, 3) := dk_184 0 85 (dk_at dksX2_shear_1 3 rfl rfl)
theorem dX2_shear_30 : decode cX2_shear 30 = .ok (.invokestatic 160, 3) := dk_184 0 160 (dk_at dksX2_shear_1 6 rfl rfl)
theorem dX2_shear_33 : decode cX2_shear 33 = .ok (.iload_n 2, 1) := dk_28 (dk_at dksX2_shear_1 9 rfl rfl)
theorem dX2_shear_34 : decode cX2_shear 34 = .ok (.aload 4, 2) := dk_25 4 (dk_at dksX2_shear_1 10 rfl rfl)
theorem dX2_shear_36 : decode cX2_shear 36 = .ok (.getfield 209, 3) := dk_180 0 209 (dk_at dksX2_shear_1 12 rfl rfl)
theorem dX2_shear_39 : decode cX2_shear 39 = .ok (.invokestatic 220, 3) := dk_184 0 220 (dk_at dksX2_shear_1 15 rfl rfl)
theorem dX2_shear_42 : decode cX2_shear 42 = .ok (.iconst 4, 1) := dk_7 (dk_at dksX2_shear_1 18 rfl rfl)
theorem dX2_shear_43 : decode cX2_shear 43 = .ok (.iload_n 2, 1) := dk_28 (dk_at dksX2_shear_1 19 rfl rfl)
theorem dX2_shear_44 : decode cX2_shear 44 = .ok (.invokestatic 97, 3) := dk_184 0 97 (dk_at dksX2_shear_1 20 rfl rfl)
theorem dX2_shear_47 : decode cX2_shear 47 = .ok (.aload_n 0, 1) := dk_42 (dk_at dksX2_shear_1 23 rfl rfl)
theorem dX2_shear_48 : decode cX2_shear 48 = .ok (.getfield 24, 3) := dk_180 0 24 (dk_at dksX2_shear_2 0 rfl rfl)
theorem dX2_shear_51 : decode cX2_shear 51 = .ok (.iload_n 2, 1) := dk_28 (dk_at dksX2_shear_2 3 rfl rfl)
theorem dX2_shear_52 : decode cX2_shear 52 = .ok (.iaload, 1) := dk_46 (dk_at dksX2_shear_2 4 rfl rfl)
theorem dX2_shear_53 : decode cX2_shear 53 = .ok (.iload_n 3, 1) := dk_29 (dk_at dksX2_shear_2 5 rfl rfl)
theorem dX2_shear_54 : decode cX2_shear 54 = .ok (.isub, 1) := dk_100 (dk_at dksX2_shear_2 6 rfl rfl)
theorem dX2_shear_55 : decode cX2_shear 55 = .ok (.istore 5, 2) := dk_54 5 (dk_at dksX2_shear_2 7 rfl rfl)
theorem dX2_shear_57 : decode cX2_shear 57 = .ok (.iload 5, 2) := dk_21 5 (dk_at dksX2_shear_2 9 rfl rfl)
theorem dX2_shear_59 : decode cX2_shear 59 = .ok (.ifCond .le 7, 3) := dk_158 0 7 (dk_at dksX2_shear_2 11 rfl rfl)
theorem dX2_shear_62 : decode cX2_shear 62 = .ok (.iconst 1, 1) := dk_4 (dk_at dksX2_shear_2 14 rfl rfl)
theorem dX2_shear_63 : decode cX2_shear 63 = .ok (.goto 4, 3) := dk_167 0 4 (dk_at dksX2_shear_2 15 rfl rfl)
theorem dX2_shear_66 : decode cX2_shear 66 = .ok (.iconst 0, 1) := dk_3 (dk_at dksX2_shear_2 18 rfl rfl)
theorem dX2_shear_67 : decode cX2_shear 67 = .ok (.iconst 5, 1) := dk_8 (dk_at dksX2_shear_2 19 rfl rfl)
theorem dX2_shear_68 : decode cX2_shear 68 = .ok (.aload_n 0, 1) := dk_42 (dk_at dksX2_shear_2 20 rfl rfl)
theorem dX2_shear_69 : decode cX2_shear 69 = .ok (.getfield 24, 3) := dk_180 0 24 (dk_at dksX2_shear_2 21 rfl rfl)
theorem dX2_shear_72 : decode cX2_shear 72 = .ok (.iload_n 2, 1) := dk_28 (dk_at dksX2_shear_3 0 rfl rfl)
theorem dX2_shear_73 : decode cX2_shear 73 = .ok (.iaload, 1) := dk_46 (dk_at dksX2_shear_3 1 rfl rfl)
theorem dX2_shear_74 : decode cX2_shear 74 = .ok (.invokestatic 97, 3) := dk_184 0 97 (dk_at dksX2_shear_3 2 rfl rfl)
theorem dX2_shear_77 : decode cX2_shear 77 = .ok (.iload 5, 2) := dk_21 5 (dk_at dksX2_shear_3 5 rfl rfl)
theorem dX2_shear_79 : decode cX2_shear 79 = .ok (.iconst 3, 1) := dk_6 (dk_at dksX2_shear_3 7 rfl rfl)
theorem dX2_shear_80 : decode cX2_shear 80 = .ok (.iadd, 1) := dk_96 (dk_at dksX2_shear_3 8 rfl rfl)
theorem dX2_shear_81 : decode cX2_shear 81 = .ok (.iconst 4, 1) := dk_7 (dk_at dksX2_shear_3 9 rfl rfl)
theorem dX2_shear_82 : decode cX2_shear 82 = .ok (.idiv, 1) := dk_108 (dk_at dksX2_shear_3 10 rfl rfl)
theorem dX2_shear_83 : decode cX2_shear 83 = .ok (.istore 6, 2) := dk_54 6 (dk_at dksX2_shear_3 11 rfl rfl)
theorem dX2_shear_85 : decode cX2_shear 85 = .ok (.aload 4, 2) := dk_25 4 (dk_at dksX2_shear_3 13 rfl rfl)
theorem dX2_shear_87 : decode cX2_shear 87 = .ok (.getfield 213, 3) := dk_180 0 213 (dk_at dksX2_shear_3 15 rfl rfl)
theorem dX2_shear_90 : decode cX2_shear 90 = .ok (.iload 6, 2) := dk_21 6 (dk_at dksX2_shear_3 18 rfl rfl)
theorem dX2_shear_92 : decode cX2_shear 92 = .ok (.if_icmp .lt 7, 3) := dk_161 0 7 (dk_at dksX2_shear_3 20 rfl rfl)
theorem dX2_shear_95 : decode cX2_shear 95 = .ok (.iconst 1, 1) := dk_4 (dk_at dksX2_shear_3 23 rfl rfl)
theorem dX2_shear_96 : decode cX2_shear 96 = .ok (.goto 4, 3) := dk_167 0 4 (dk_at dksX2_shear_4 0 rfl rfl)
theorem dX2_shear_99 : decode cX2_shear 99 = .ok (.iconst 0, 1) := dk_3 (dk_at dksX2_shear_4 3 rfl rfl)
theorem dX2_shear_100 : decode cX2_shear 100 = .ok (.bipush 6, 2) := dk_16 6 (dk_at dksX2_shear_4 4 rfl rfl)
theorem dX2_shear_102 : decode cX2_shear 102 = .ok (.iload 6, 2) := dk_21 6 (dk_at dksX2_shear_4 6 rfl rfl)
theorem dX2_shear_104 : decode cX2_shear 104 = .ok (.aload 4, 2) := dk_25 4 (dk_at dksX2_shear_4 8 rfl rfl)
theorem dX2_shear_106 : decode cX2_shear 106 = .ok (.getfield 213, 3) := dk_180 0 213 (dk_at dksX2_shear_4 10 rfl rfl)
theorem dX2_shear_109 : decode cX2_shear 109 = .ok (.isub, 1) := dk_100 (dk_at dksX2_shear_4 13 rfl rfl)
theorem dX2_shear_110 : decode cX2_shear 110 = .ok (.invokestatic 97, 3) := dk_184 0 97 (dk_at dksX2_shear_4 14 rfl rfl)
theorem dX2_shear_113 : decode cX2_shear 113 = .ok (.aload_n 0, 1) := dk_42 (dk_at dksX2_shear_4 17 rfl rfl)
theorem dX2_shear_114 : decode cX2_shear 114 = .ok (.getfield 24, 3) := dk_180 0 24 (dk_at dksX2_shear_4 18 rfl rfl)
theorem dX2_shear_117 : decode cX2_shear 117 = .ok (.iload_n 2, 1) := dk_28 (dk_at dksX2_shear_4 21 rfl rfl)
theorem dX2_shear_118 : decode cX2_shear 118 = .ok (.iload_n 3, 1) := dk_29 (dk_at dksX2_shear_4 22 rfl rfl)
theorem dX2_shear_119 : decode cX2_shear 119 = .ok (.iastore, 1) := dk_79 (dk_at dksX2_shear_4 23 rfl rfl)
theorem dX2_shear_120 : decode cX2_shear 120 = .ok (.aload_n 0, 1) := dk_42 (dk_at dksX2_shear_5 0 rfl rfl)
theorem dX2_shear_121 : decode cX2_shear 121 = .ok (.getfield 18, 3) := dk_180 0 18 (dk_at dksX2_shear_5 1 rfl rfl)
theorem dX2_shear_124 : decode cX2_shear 124 = .ok (.iload_n 1, 1) := dk_27 (dk_at dksX2_shear_5 4 rfl rfl)
theorem dX2_shear_125 : decode cX2_shear 125 = .ok (.aload 4, 2) := dk_25 4 (dk_at dksX2_shear_5 5 rfl rfl)
theorem dX2_shear_127 : decode cX2_shear 127 = .ok (.iload 5, 2) := dk_21 5 (dk_at dksX2_shear_5 7 rfl rfl)
theorem dX2_shear_129 : decode cX2_shear 129 = .ok (.iload 6, 2) := dk_21 6 (dk_at dksX2_shear_5 9 rfl rfl)
theorem dX2_shear_131 : decode cX2_shear 131 = .ok (.invokevirtual 224, 3) := dk_182 0 224 (dk_at dksX2_shear_5 11 rfl rfl)
theorem dX2_shear_134 : decode cX2_shear 134 = .ok (.invokeinterface 105 3, 5) := by decide +kernel
theorem dX2_shear_139 : decode cX2_shear 139 = .ok (.checkcast 207, 3) := dk_192 0 207 (dk_at dksX2_shear_5 19 rfl rfl)
theorem dX2_shear_142 : decode cX2_shear 142 = .ok (.astore 7, 2) := dk_58 7 (dk_at dksX2_shear_5 22 rfl rfl)
theorem dX2_shear_144 : decode cX2_shear 144 = .ok (.iload 5, 2) := dk_21 5 (dk_at dksX2_shear_6 0 rfl rfl)
theorem dX2_shear_146 : decode cX2_shear 146 = .ok (.ireturn, 1) := dk_172 (dk_at dksX2_shear_6 2 rfl rfl)
abbrev cX2_isBeside : ByteArray := prog_6_method_21_code
def yX2_isBeside : MethodName := ⟨RX2, "isBeside", "(II)Z"⟩
def dkwX2_isBeside_1 : List UInt8 := [132, 2, 1, 167, 255, 231, 3, 172]
abbrev dktX2_isBeside_1 : List UInt8 := dkwX2_isBeside_1 ++ []
def dkwX2_isBeside_0 : List UInt8 := [3, 61, 28, 16, 9, 162, 0, 25, 28, 27, 159, 0, 14, 27, 28, 184, 0, 120, 26, 160, 0, 5, 4, 172]
abbrev dktX2_isBeside_0 : List UInt8 := dkwX2_isBeside_0 ++ dktX2_isBeside_1
theorem dksX2_isBeside_0 : cX2_isBeside.data.toList.drop 0 = dktX2_isBeside_0 := by decide +kernel
theorem dksX2_isBeside_1 : cX2_isBeside.data.toList.drop 24 = dktX2_isBeside_1 := dk_seg dksX2_isBeside_0 24 rfl rfl
theorem dX2_isBeside_0 : decode cX2_isBeside 0 = .ok (.iconst 0, 1) := dk_3 (dk_at dksX2_isBeside_0 0 rfl rfl)
theorem dX2_isBeside_1 : decode cX2_isBeside 1 = .ok (.istore_n 2, 1) := dk_61 (dk_at dksX2_isBeside_0 1 rfl rfl)
theorem dX2_isBeside_2 : decode cX2_isBeside 2 = .ok (.iload_n 2, 1) := dk_28 (dk_at dksX2_isBeside_0 2 rfl rfl)
theorem dX2_isBeside_3 : decode cX2_isBeside 3 = .ok (.bipush 9, 2) := dk_16 9 (dk_at dksX2_isBeside_0 3 rfl rfl)
theorem dX2_isBeside_5 : decode cX2_isBeside 5 = .ok (.if_icmp .ge 25, 3) := dk_162 0 25 (dk_at dksX2_isBeside_0 5 rfl rfl)
theorem dX2_isBeside_8 : decode cX2_isBeside 8 = .ok (.iload_n 2, 1) := dk_28 (dk_at dksX2_isBeside_0 8 rfl rfl)
theorem dX2_isBeside_9 : decode cX2_isBeside 9 = .ok (.iload_n 1, 1) := dk_27 (dk_at dksX2_isBeside_0 9 rfl rfl)
theorem dX2_isBeside_10 : decode cX2_isBeside 10 = .ok (.if_icmp .eq 14, 3) := dk_159 0 14 (dk_at dksX2_isBeside_0 10 rfl rfl)
theorem dX2_isBeside_13 : decode cX2_isBeside 13 = .ok (.iload_n 1, 1) := dk_27 (dk_at dksX2_isBeside_0 13 rfl rfl)
theorem dX2_isBeside_14 : decode cX2_isBeside 14 = .ok (.iload_n 2, 1) := dk_28 (dk_at dksX2_isBeside_0 14 rfl rfl)
theorem dX2_isBeside_15 : decode cX2_isBeside 15 = .ok (.invokestatic 120, 3) := dk_184 0 120 (dk_at dksX2_isBeside_0 15 rfl rfl)
theorem dX2_isBeside_18 : decode cX2_isBeside 18 = .ok (.iload_n 0, 1) := dk_26 (dk_at dksX2_isBeside_0 18 rfl rfl)
theorem dX2_isBeside_19 : decode cX2_isBeside 19 = .ok (.if_icmp .ne 5, 3) := dk_160 0 5 (dk_at dksX2_isBeside_0 19 rfl rfl)
theorem dX2_isBeside_22 : decode cX2_isBeside 22 = .ok (.iconst 1, 1) := dk_4 (dk_at dksX2_isBeside_0 22 rfl rfl)
theorem dX2_isBeside_23 : decode cX2_isBeside 23 = .ok (.ireturn, 1) := dk_172 (dk_at dksX2_isBeside_0 23 rfl rfl)
theorem dX2_isBeside_24 : decode cX2_isBeside 24 = .ok (.iinc 2 1, 3) := dk_132 2 1 (dk_at dksX2_isBeside_1 0 rfl rfl)
theorem dX2_isBeside_27 : decode cX2_isBeside 27 = .ok (.goto (-25), 3) := dk_167 255 231 (dk_at dksX2_isBeside_1 3 rfl rfl)
theorem dX2_isBeside_30 : decode cX2_isBeside 30 = .ok (.iconst 0, 1) := dk_3 (dk_at dksX2_isBeside_1 6 rfl rfl)
theorem dX2_isBeside_31 : decode cX2_isBeside 31 = .ok (.ireturn, 1) := dk_172 (dk_at dksX2_isBeside_1 7 rfl rfl)
abbrev cX2_find : ByteArray := prog_6_method_23_code
def yX2_find : MethodName := ⟨RX2, "find", "(I)I"⟩
def dkwX2_find_4 : List UInt8 := [42, 180, 0, 18, 27, 44, 29, 182, 0, 227, 185, 0, 105, 3, 0, 192, 0, 207, 58, 4, 29, 172]
abbrev dktX2_find_4 : List UInt8 := dkwX2_find_4 ++ []
def dkwX2_find_3 : List UInt8 := [62, 42, 180, 0, 28, 44, 180, 0, 209, 92, 46, 29, 100, 79, 42, 89, 180, 0, 63, 29, 96, 181, 0, 63]
abbrev dktX2_find_3 : List UInt8 := dkwX2_find_3 ++ dktX2_find_4
def dkwX2_find_2 : List UInt8 := [167, 0, 4, 3, 16, 6, 4, 184, 0, 97, 16, 15, 42, 180, 0, 28, 44, 180, 0, 209, 46, 184, 0, 111]
abbrev dktX2_find_2 : List UInt8 := dkwX2_find_2 ++ dktX2_find_3
def dkwX2_find_1 : List UInt8 := [4, 167, 0, 4, 3, 16, 7, 44, 180, 0, 209, 184, 0, 97, 44, 180, 0, 213, 158, 0, 7, 4]
abbrev dktX2_find_1 : List UInt8 := dkwX2_find_1 ++ dktX2_find_2
def dkwX2_find_0 : List UInt8 := [42, 180, 0, 18, 27, 184, 0, 170, 192, 0, 207, 77, 42, 180, 0, 28, 44, 180, 0, 209, 46, 158, 0, 7]
abbrev dktX2_find_0 : List UInt8 := dkwX2_find_0 ++ dktX2_find_1
theorem dksX2_find_0 : cX2_find.data.toList.drop 0 = dktX2_find_0 := by decide +kernel
theorem dksX2_find_1 : cX2_find.data.toList.drop 24 = dktX2_find_1 := dk_seg dksX2_find_0 24 rfl rfl
theorem dksX2_find_2 : cX2_find.data.toList.drop 46 = dktX2_find_2 := dk_seg dksX2_find_1 22 rfl rfl
theorem dksX2_find_3 : cX2_find.data.toList.drop 70 = dktX2_find_3 := dk_seg dksX2_find_2 24 rfl rfl
theorem dksX2_find_4 : cX2_find.data.toList.drop 94 = dktX2_find_4 := dk_seg dksX2_find_3 24 rfl rfl
theorem dX2_find_0 : decode cX2_find 0 = .ok (.aload_n 0, 1) := dk_42 (dk_at dksX2_find_0 0 rfl rfl)
theorem dX2_find_1 : decode cX2_find 1 = .ok (.getfield 18, 3) := dk_180 0 18 (dk_at dksX2_find_0 1 rfl rfl)
theorem dX2_find_4 : decode cX2_find 4 = .ok (.iload_n 1, 1) := dk_27 (dk_at dksX2_find_0 4 rfl rfl)
theorem dX2_find_5 : decode cX2_find 5 = .ok (.invokestatic 170, 3) := dk_184 0 170 (dk_at dksX2_find_0 5 rfl rfl)
theorem dX2_find_8 : decode cX2_find 8 = .ok (.checkcast 207, 3) := dk_192 0 207 (dk_at dksX2_find_0 8 rfl rfl)
theorem dX2_find_11 : decode cX2_find 11 = .ok (.astore_n 2, 1) := dk_77 (dk_at dksX2_find_0 11 rfl rfl)
theorem dX2_find_12 : decode cX2_find 12 = .ok (.aload_n 0, 1) := dk_42 (dk_at dksX2_find_0 12 rfl rfl)
theorem dX2_find_13 : decode cX2_find 13 = .ok (.getfield 28, 3) := dk_180 0 28 (dk_at dksX2_find_0 13 rfl rfl)
theorem dX2_find_16 : decode cX2_find 16 = .ok (.aload_n 2, 1) := dk_44 (dk_at dksX2_find_0 16 rfl rfl)
theorem dX2_find_17 : decode cX2_find 17 = .ok (.getfield 209, 3) := dk_180 0 209 (dk_at dksX2_find_0 17 rfl rfl)
theorem dX2_find_20 : decode cX2_find 20 = .ok (.iaload, 1) := dk_46 (dk_at dksX2_find_0 20 rfl rfl)
theorem dX2_find_21 : decode cX2_find 21 = .ok (.ifCond .le 7, 3) := dk_158 0 7 (dk_at dksX2_find_0 21 rfl rfl)
theorem dX2_find_24 : decode cX2_find 24 = .ok (.iconst 1, 1) := dk_4 (dk_at dksX2_find_1 0 rfl rfl)
theorem dX2_find_25 : decode cX2_find 25 = .ok (.goto 4, 3) := dk_167 0 4 (dk_at dksX2_find_1 1 rfl rfl)
theorem dX2_find_28 : decode cX2_find 28 = .ok (.iconst 0, 1) := dk_3 (dk_at dksX2_find_1 4 rfl rfl)
theorem dX2_find_29 : decode cX2_find 29 = .ok (.bipush 7, 2) := dk_16 7 (dk_at dksX2_find_1 5 rfl rfl)
theorem dX2_find_31 : decode cX2_find 31 = .ok (.aload_n 2, 1) := dk_44 (dk_at dksX2_find_1 7 rfl rfl)
theorem dX2_find_32 : decode cX2_find 32 = .ok (.getfield 209, 3) := dk_180 0 209 (dk_at dksX2_find_1 8 rfl rfl)
theorem dX2_find_35 : decode cX2_find 35 = .ok (.invokestatic 97, 3) := dk_184 0 97 (dk_at dksX2_find_1 11 rfl rfl)
theorem dX2_find_38 : decode cX2_find 38 = .ok (.aload_n 2, 1) := dk_44 (dk_at dksX2_find_1 14 rfl rfl)
theorem dX2_find_39 : decode cX2_find 39 = .ok (.getfield 213, 3) := dk_180 0 213 (dk_at dksX2_find_1 15 rfl rfl)
theorem dX2_find_42 : decode cX2_find 42 = .ok (.ifCond .le 7, 3) := dk_158 0 7 (dk_at dksX2_find_1 18 rfl rfl)
theorem dX2_find_45 : decode cX2_find 45 = .ok (.iconst 1, 1) := dk_4 (dk_at dksX2_find_1 21 rfl rfl)
theorem dX2_find_46 : decode cX2_find 46 = .ok (.goto 4, 3) := dk_167 0 4 (dk_at dksX2_find_2 0 rfl rfl)
theorem dX2_find_49 : decode cX2_find 49 = .ok (.iconst 0, 1) := dk_3 (dk_at dksX2_find_2 3 rfl rfl)
theorem dX2_find_50 : decode cX2_find 50 = .ok (.bipush 6, 2) := dk_16 6 (dk_at dksX2_find_2 4 rfl rfl)
theorem dX2_find_52 : decode cX2_find 52 = .ok (.iconst 1, 1) := dk_4 (dk_at dksX2_find_2 6 rfl rfl)
theorem dX2_find_53 : decode cX2_find 53 = .ok (.invokestatic 97, 3) := dk_184 0 97 (dk_at dksX2_find_2 7 rfl rfl)
theorem dX2_find_56 : decode cX2_find 56 = .ok (.bipush 15, 2) := dk_16 15 (dk_at dksX2_find_2 10 rfl rfl)
theorem dX2_find_58 : decode cX2_find 58 = .ok (.aload_n 0, 1) := dk_42 (dk_at dksX2_find_2 12 rfl rfl)
theorem dX2_find_59 : decode cX2_find 59 = .ok (.getfield 28, 3) := dk_180 0 28 (dk_at dksX2_find_2 13 rfl rfl)
theorem dX2_find_62 : decode cX2_find 62 = .ok (.aload_n 2, 1) := dk_44 (dk_at dksX2_find_2 16 rfl rfl)
theorem dX2_find_63 : decode cX2_find 63 = .ok (.getfield 209, 3) := dk_180 0 209 (dk_at dksX2_find_2 17 rfl rfl)
theorem dX2_find_66 : decode cX2_find 66 = .ok (.iaload, 1) := dk_46 (dk_at dksX2_find_2 20 rfl rfl)
theorem dX2_find_67 : decode cX2_find 67 = .ok (.invokestatic 111, 3) := dk_184 0 111 (dk_at dksX2_find_2 21 rfl rfl)
theorem dX2_find_70 : decode cX2_find 70 = .ok (.istore_n 3, 1) := dk_62 (dk_at dksX2_find_3 0 rfl rfl)
theorem dX2_find_71 : decode cX2_find 71 = .ok (.aload_n 0, 1) := dk_42 (dk_at dksX2_find_3 1 rfl rfl)
theorem dX2_find_72 : decode cX2_find 72 = .ok (.getfield 28, 3) := dk_180 0 28 (dk_at dksX2_find_3 2 rfl rfl)
theorem dX2_find_75 : decode cX2_find 75 = .ok (.aload_n 2, 1) := dk_44 (dk_at dksX2_find_3 5 rfl rfl)
theorem dX2_find_76 : decode cX2_find 76 = .ok (.getfield 209, 3) := dk_180 0 209 (dk_at dksX2_find_3 6 rfl rfl)
theorem dX2_find_79 : decode cX2_find 79 = .ok (.dup2, 1) := dk_92 (dk_at dksX2_find_3 9 rfl rfl)
theorem dX2_find_80 : decode cX2_find 80 = .ok (.iaload, 1) := dk_46 (dk_at dksX2_find_3 10 rfl rfl)
theorem dX2_find_81 : decode cX2_find 81 = .ok (.iload_n 3, 1) := dk_29 (dk_at dksX2_find_3 11 rfl rfl)
theorem dX2_find_82 : decode cX2_find 82 = .ok (.isub, 1) := dk_100 (dk_at dksX2_find_3 12 rfl rfl)
theorem dX2_find_83 : decode cX2_find 83 = .ok (.iastore, 1) := dk_79 (dk_at dksX2_find_3 13 rfl rfl)
theorem dX2_find_84 : decode cX2_find 84 = .ok (.aload_n 0, 1) := dk_42 (dk_at dksX2_find_3 14 rfl rfl)
theorem dX2_find_85 : decode cX2_find 85 = .ok (.dup, 1) := dk_89 (dk_at dksX2_find_3 15 rfl rfl)
theorem dX2_find_86 : decode cX2_find 86 = .ok (.getfield 63, 3) := dk_180 0 63 (dk_at dksX2_find_3 16 rfl rfl)
theorem dX2_find_89 : decode cX2_find 89 = .ok (.iload_n 3, 1) := dk_29 (dk_at dksX2_find_3 19 rfl rfl)
theorem dX2_find_90 : decode cX2_find 90 = .ok (.iadd, 1) := dk_96 (dk_at dksX2_find_3 20 rfl rfl)
theorem dX2_find_91 : decode cX2_find 91 = .ok (.putfield 63, 3) := dk_181 0 63 (dk_at dksX2_find_3 21 rfl rfl)
theorem dX2_find_94 : decode cX2_find 94 = .ok (.aload_n 0, 1) := dk_42 (dk_at dksX2_find_4 0 rfl rfl)
theorem dX2_find_95 : decode cX2_find 95 = .ok (.getfield 18, 3) := dk_180 0 18 (dk_at dksX2_find_4 1 rfl rfl)
theorem dX2_find_98 : decode cX2_find 98 = .ok (.iload_n 1, 1) := dk_27 (dk_at dksX2_find_4 4 rfl rfl)
theorem dX2_find_99 : decode cX2_find 99 = .ok (.aload_n 2, 1) := dk_44 (dk_at dksX2_find_4 5 rfl rfl)
theorem dX2_find_100 : decode cX2_find 100 = .ok (.iload_n 3, 1) := dk_29 (dk_at dksX2_find_4 6 rfl rfl)
theorem dX2_find_101 : decode cX2_find 101 = .ok (.invokevirtual 227, 3) := dk_182 0 227 (dk_at dksX2_find_4 7 rfl rfl)
theorem dX2_find_104 : decode cX2_find 104 = .ok (.invokeinterface 105 3, 5) := by decide +kernel
theorem dX2_find_109 : decode cX2_find 109 = .ok (.checkcast 207, 3) := dk_192 0 207 (dk_at dksX2_find_4 15 rfl rfl)
theorem dX2_find_112 : decode cX2_find 112 = .ok (.astore 4, 2) := dk_58 4 (dk_at dksX2_find_4 18 rfl rfl)
theorem dX2_find_114 : decode cX2_find 114 = .ok (.iload_n 3, 1) := dk_29 (dk_at dksX2_find_4 20 rfl rfl)
theorem dX2_find_115 : decode cX2_find 115 = .ok (.ireturn, 1) := dk_172 (dk_at dksX2_find_4 21 rfl rfl)
abbrev cX2_sell : ByteArray := prog_6_method_24_code
def yX2_sell : MethodName := ⟨RX2, "sell", "(I)I"⟩
def dkwX2_sell_3 : List UInt8 := [181, 0, 41, 42, 180, 0, 41, 172]
abbrev dktX2_sell_3 : List UInt8 := dkwX2_sell_3 ++ []
def dkwX2_sell_2 : List UInt8 := [181, 0, 63, 42, 89, 180, 0, 69, 28, 96, 181, 0, 69, 42, 89, 180, 0, 41, 7, 27, 104, 96]
abbrev dktX2_sell_2 : List UInt8 := dkwX2_sell_2 ++ dktX2_sell_3
def dkwX2_sell_1 : List UInt8 := [167, 0, 4, 3, 16, 8, 28, 42, 180, 0, 63, 100, 184, 0, 97, 42, 89, 180, 0, 63, 28, 100]
abbrev dktX2_sell_1 : List UInt8 := dkwX2_sell_1 ++ dktX2_sell_2
def dkwX2_sell_0 : List UInt8 := [27, 4, 16, 20, 184, 0, 85, 184, 0, 160, 16, 10, 27, 104, 61, 42, 180, 0, 63, 28, 161, 0, 7, 4]
abbrev dktX2_sell_0 : List UInt8 := dkwX2_sell_0 ++ dktX2_sell_1
theorem dksX2_sell_0 : cX2_sell.data.toList.drop 0 = dktX2_sell_0 := by decide +kernel
theorem dksX2_sell_1 : cX2_sell.data.toList.drop 24 = dktX2_sell_1 := dk_seg dksX2_sell_0 24 rfl rfl
theorem dksX2_sell_2 : cX2_sell.data.toList.drop 46 = dktX2_sell_2 := dk_seg dksX2_sell_1 22 rfl rfl
theorem dksX2_sell_3 : cX2_sell.data.toList.drop 68 = dktX2_sell_3 := dk_seg dksX2_sell_2 22 rfl rfl
theorem dX2_sell_0 : decode cX2_sell 0 = .ok (.iload_n 1, 1) := dk_27 (dk_at dksX2_sell_0 0 rfl rfl)
theorem dX2_sell_1 : decode cX2_sell 1 = .ok (.iconst 1, 1) := dk_4 (dk_at dksX2_sell_0 1 rfl rfl)
theorem dX2_sell_2 : decode cX2_sell 2 = .ok (.bipush 20, 2) := dk_16 20 (dk_at dksX2_sell_0 2 rfl rfl)
theorem dX2_sell_4 : decode cX2_sell 4 = .ok (.invokestatic 85, 3) := dk_184 0 85 (dk_at dksX2_sell_0 4 rfl rfl)
theorem dX2_sell_7 : decode cX2_sell 7 = .ok (.invokestatic 160, 3) := dk_184 0 160 (dk_at dksX2_sell_0 7 rfl rfl)
theorem dX2_sell_10 : decode cX2_sell 10 = .ok (.bipush 10, 2) := dk_16 10 (dk_at dksX2_sell_0 10 rfl rfl)
theorem dX2_sell_12 : decode cX2_sell 12 = .ok (.iload_n 1, 1) := dk_27 (dk_at dksX2_sell_0 12 rfl rfl)
theorem dX2_sell_13 : decode cX2_sell 13 = .ok (.imul, 1) := dk_104 (dk_at dksX2_sell_0 13 rfl rfl)
theorem dX2_sell_14 : decode cX2_sell 14 = .ok (.istore_n 2, 1) := dk_61 (dk_at dksX2_sell_0 14 rfl rfl)
theorem dX2_sell_15 : decode cX2_sell 15 = .ok (.aload_n 0, 1) := dk_42 (dk_at dksX2_sell_0 15 rfl rfl)
theorem dX2_sell_16 : decode cX2_sell 16 = .ok (.getfield 63, 3) := dk_180 0 63 (dk_at dksX2_sell_0 16 rfl rfl)
theorem dX2_sell_19 : decode cX2_sell 19 = .ok (.iload_n 2, 1) := dk_28 (dk_at dksX2_sell_0 19 rfl rfl)
theorem dX2_sell_20 : decode cX2_sell 20 = .ok (.if_icmp .lt 7, 3) := dk_161 0 7 (dk_at dksX2_sell_0 20 rfl rfl)
theorem dX2_sell_23 : decode cX2_sell 23 = .ok (.iconst 1, 1) := dk_4 (dk_at dksX2_sell_0 23 rfl rfl)
theorem dX2_sell_24 : decode cX2_sell 24 = .ok (.goto 4, 3) := dk_167 0 4 (dk_at dksX2_sell_1 0 rfl rfl)
theorem dX2_sell_27 : decode cX2_sell 27 = .ok (.iconst 0, 1) := dk_3 (dk_at dksX2_sell_1 3 rfl rfl)
theorem dX2_sell_28 : decode cX2_sell 28 = .ok (.bipush 8, 2) := dk_16 8 (dk_at dksX2_sell_1 4 rfl rfl)
theorem dX2_sell_30 : decode cX2_sell 30 = .ok (.iload_n 2, 1) := dk_28 (dk_at dksX2_sell_1 6 rfl rfl)
theorem dX2_sell_31 : decode cX2_sell 31 = .ok (.aload_n 0, 1) := dk_42 (dk_at dksX2_sell_1 7 rfl rfl)
theorem dX2_sell_32 : decode cX2_sell 32 = .ok (.getfield 63, 3) := dk_180 0 63 (dk_at dksX2_sell_1 8 rfl rfl)
theorem dX2_sell_35 : decode cX2_sell 35 = .ok (.isub, 1) := dk_100 (dk_at dksX2_sell_1 11 rfl rfl)
theorem dX2_sell_36 : decode cX2_sell 36 = .ok (.invokestatic 97, 3) := dk_184 0 97 (dk_at dksX2_sell_1 12 rfl rfl)
theorem dX2_sell_39 : decode cX2_sell 39 = .ok (.aload_n 0, 1) := dk_42 (dk_at dksX2_sell_1 15 rfl rfl)
theorem dX2_sell_40 : decode cX2_sell 40 = .ok (.dup, 1) := dk_89 (dk_at dksX2_sell_1 16 rfl rfl)
theorem dX2_sell_41 : decode cX2_sell 41 = .ok (.getfield 63, 3) := dk_180 0 63 (dk_at dksX2_sell_1 17 rfl rfl)
theorem dX2_sell_44 : decode cX2_sell 44 = .ok (.iload_n 2, 1) := dk_28 (dk_at dksX2_sell_1 20 rfl rfl)
theorem dX2_sell_45 : decode cX2_sell 45 = .ok (.isub, 1) := dk_100 (dk_at dksX2_sell_1 21 rfl rfl)
theorem dX2_sell_46 : decode cX2_sell 46 = .ok (.putfield 63, 3) := dk_181 0 63 (dk_at dksX2_sell_2 0 rfl rfl)
theorem dX2_sell_49 : decode cX2_sell 49 = .ok (.aload_n 0, 1) := dk_42 (dk_at dksX2_sell_2 3 rfl rfl)
theorem dX2_sell_50 : decode cX2_sell 50 = .ok (.dup, 1) := dk_89 (dk_at dksX2_sell_2 4 rfl rfl)
theorem dX2_sell_51 : decode cX2_sell 51 = .ok (.getfield 69, 3) := dk_180 0 69 (dk_at dksX2_sell_2 5 rfl rfl)
theorem dX2_sell_54 : decode cX2_sell 54 = .ok (.iload_n 2, 1) := dk_28 (dk_at dksX2_sell_2 8 rfl rfl)
theorem dX2_sell_55 : decode cX2_sell 55 = .ok (.iadd, 1) := dk_96 (dk_at dksX2_sell_2 9 rfl rfl)
theorem dX2_sell_56 : decode cX2_sell 56 = .ok (.putfield 69, 3) := dk_181 0 69 (dk_at dksX2_sell_2 10 rfl rfl)
theorem dX2_sell_59 : decode cX2_sell 59 = .ok (.aload_n 0, 1) := dk_42 (dk_at dksX2_sell_2 13 rfl rfl)
theorem dX2_sell_60 : decode cX2_sell 60 = .ok (.dup, 1) := dk_89 (dk_at dksX2_sell_2 14 rfl rfl)
theorem dX2_sell_61 : decode cX2_sell 61 = .ok (.getfield 41, 3) := dk_180 0 41 (dk_at dksX2_sell_2 15 rfl rfl)
theorem dX2_sell_64 : decode cX2_sell 64 = .ok (.iconst 4, 1) := dk_7 (dk_at dksX2_sell_2 18 rfl rfl)
theorem dX2_sell_65 : decode cX2_sell 65 = .ok (.iload_n 1, 1) := dk_27 (dk_at dksX2_sell_2 19 rfl rfl)
theorem dX2_sell_66 : decode cX2_sell 66 = .ok (.imul, 1) := dk_104 (dk_at dksX2_sell_2 20 rfl rfl)
theorem dX2_sell_67 : decode cX2_sell 67 = .ok (.iadd, 1) := dk_96 (dk_at dksX2_sell_2 21 rfl rfl)
theorem dX2_sell_68 : decode cX2_sell 68 = .ok (.putfield 41, 3) := dk_181 0 41 (dk_at dksX2_sell_3 0 rfl rfl)
theorem dX2_sell_71 : decode cX2_sell 71 = .ok (.aload_n 0, 1) := dk_42 (dk_at dksX2_sell_3 3 rfl rfl)
theorem dX2_sell_72 : decode cX2_sell 72 = .ok (.getfield 41, 3) := dk_180 0 41 (dk_at dksX2_sell_3 4 rfl rfl)
theorem dX2_sell_75 : decode cX2_sell 75 = .ok (.ireturn, 1) := dk_172 (dk_at dksX2_sell_3 7 rfl rfl)
abbrev cX2_seat : ByteArray := prog_6_method_25_code
def yX2_seat : MethodName := ⟨RX2, "seat", "(II)I"⟩
def dkwX2_seat_3 : List UInt8 := [89, 180, 0, 41, 5, 28, 104, 96, 181, 0, 41, 45, 180, 0, 233, 28, 96, 172]
abbrev dktX2_seat_3 : List UInt8 := dkwX2_seat_3 ++ []
def dkwX2_seat_2 : List UInt8 := [184, 0, 97, 42, 180, 0, 21, 27, 45, 28, 182, 0, 236, 185, 0, 105, 3, 0, 192, 0, 231, 58, 4, 42]
abbrev dktX2_seat_2 : List UInt8 := dkwX2_seat_2 ++ dktX2_seat_3
def dkwX2_seat_1 : List UInt8 := [180, 0, 233, 28, 96, 16, 6, 163, 0, 7, 4, 167, 0, 4, 3, 16, 9, 16, 6, 45, 180, 0, 233, 100]
abbrev dktX2_seat_1 : List UInt8 := dkwX2_seat_1 ++ dktX2_seat_2
def dkwX2_seat_0 : List UInt8 := [42, 180, 0, 21, 27, 184, 0, 170, 192, 0, 231, 78, 28, 4, 16, 6, 184, 0, 85, 184, 0, 160, 45]
abbrev dktX2_seat_0 : List UInt8 := dkwX2_seat_0 ++ dktX2_seat_1
theorem dksX2_seat_0 : cX2_seat.data.toList.drop 0 = dktX2_seat_0 := by decide +kernel
theorem dksX2_seat_1 : cX2_seat.data.toList.drop 23 = dktX2_seat_1 := dk_seg dksX2_seat_0 23 rfl rfl
theorem dksX2_seat_2 : cX2_seat.data.toList.drop 47 = dktX2_seat_2 := dk_seg dksX2_seat_1 24 rfl rfl
theorem dksX2_seat_3 : cX2_seat.data.toList.drop 71 = dktX2_seat_3 := dk_seg dksX2_seat_2 24 rfl rfl
theorem dX2_seat_0 : decode cX2_seat 0 = .ok (.aload_n 0, 1) := dk_42 (dk_at dksX2_seat_0 0 rfl rfl)
theorem dX2_seat_1 : decode cX2_seat 1 = .ok (.getfield 21, 3) := dk_180 0 21 (dk_at dksX2_seat_0 1 rfl rfl)
theorem dX2_seat_4 : decode cX2_seat 4 = .ok (.iload_n 1, 1) := dk_27 (dk_at dksX2_seat_0 4 rfl rfl)
theorem dX2_seat_5 : decode cX2_seat 5 = .ok (.invokestatic 170, 3) := dk_184 0 170 (dk_at dksX2_seat_0 5 rfl rfl)
theorem dX2_seat_8 : decode cX2_seat 8 = .ok (.checkcast 231, 3) := dk_192 0 231 (dk_at dksX2_seat_0 8 rfl rfl)
theorem dX2_seat_11 : decode cX2_seat 11 = .ok (.astore_n 3, 1) := dk_78 (dk_at dksX2_seat_0 11 rfl rfl)
theorem dX2_seat_12 : decode cX2_seat 12 = .ok (.iload_n 2, 1) := dk_28 (dk_at dksX2_seat_0 12 rfl rfl)
theorem dX2_seat_13 : decode cX2_seat 13 = .ok (.iconst 1, 1) := dk_4 (dk_at dksX2_seat_0 13 rfl rfl)
theorem dX2_seat_14 : decode cX2_seat 14 = .ok (.bipush 6, 2) := dk_16 6 (dk_at dksX2_seat_0 14 rfl rfl)
theorem dX2_seat_16 : decode cX2_seat 16 = .ok (.invokestatic 85, 3) := dk_184 0 85 (dk_at dksX2_seat_0 16 rfl rfl)
theorem dX2_seat_19 : decode cX2_seat 19 = .ok (.invokestatic 160, 3) := dk_184 0 160 (dk_at dksX2_seat_0 19 rfl rfl)
theorem dX2_seat_22 : decode cX2_seat 22 = .ok (.aload_n 3, 1) := dk_45 (dk_at dksX2_seat_0 22 rfl rfl)
theorem dX2_seat_23 : decode cX2_seat 23 = .ok (.getfield 233, 3) := dk_180 0 233 (dk_at dksX2_seat_1 0 rfl rfl)
theorem dX2_seat_26 : decode cX2_seat 26 = .ok (.iload_n 2, 1) := dk_28 (dk_at dksX2_seat_1 3 rfl rfl)
theorem dX2_seat_27 : decode cX2_seat 27 = .ok (.iadd, 1) := dk_96 (dk_at dksX2_seat_1 4 rfl rfl)
theorem dX2_seat_28 : decode cX2_seat 28 = .ok (.bipush 6, 2) := dk_16 6 (dk_at dksX2_seat_1 5 rfl rfl)
theorem dX2_seat_30 : decode cX2_seat 30 = .ok (.if_icmp .gt 7, 3) := dk_163 0 7 (dk_at dksX2_seat_1 7 rfl rfl)
theorem dX2_seat_33 : decode cX2_seat 33 = .ok (.iconst 1, 1) := dk_4 (dk_at dksX2_seat_1 10 rfl rfl)
theorem dX2_seat_34 : decode cX2_seat 34 = .ok (.goto 4, 3) := dk_167 0 4 (dk_at dksX2_seat_1 11 rfl rfl)
theorem dX2_seat_37 : decode cX2_seat 37 = .ok (.iconst 0, 1) := dk_3 (dk_at dksX2_seat_1 14 rfl rfl)
theorem dX2_seat_38 : decode cX2_seat 38 = .ok (.bipush 9, 2) := dk_16 9 (dk_at dksX2_seat_1 15 rfl rfl)
theorem dX2_seat_40 : decode cX2_seat 40 = .ok (.bipush 6, 2) := dk_16 6 (dk_at dksX2_seat_1 17 rfl rfl)
theorem dX2_seat_42 : decode cX2_seat 42 = .ok (.aload_n 3, 1) := dk_45 (dk_at dksX2_seat_1 19 rfl rfl)
theorem dX2_seat_43 : decode cX2_seat 43 = .ok (.getfield 233, 3) := dk_180 0 233 (dk_at dksX2_seat_1 20 rfl rfl)
theorem dX2_seat_46 : decode cX2_seat 46 = .ok (.isub, 1) := dk_100 (dk_at dksX2_seat_1 23 rfl rfl)
theorem dX2_seat_47 : decode cX2_seat 47 = .ok (.invokestatic 97, 3) := dk_184 0 97 (dk_at dksX2_seat_2 0 rfl rfl)
theorem dX2_seat_50 : decode cX2_seat 50 = .ok (.aload_n 0, 1) := dk_42 (dk_at dksX2_seat_2 3 rfl rfl)
theorem dX2_seat_51 : decode cX2_seat 51 = .ok (.getfield 21, 3) := dk_180 0 21 (dk_at dksX2_seat_2 4 rfl rfl)
theorem dX2_seat_54 : decode cX2_seat 54 = .ok (.iload_n 1, 1) := dk_27 (dk_at dksX2_seat_2 7 rfl rfl)
theorem dX2_seat_55 : decode cX2_seat 55 = .ok (.aload_n 3, 1) := dk_45 (dk_at dksX2_seat_2 8 rfl rfl)
theorem dX2_seat_56 : decode cX2_seat 56 = .ok (.iload_n 2, 1) := dk_28 (dk_at dksX2_seat_2 9 rfl rfl)
theorem dX2_seat_57 : decode cX2_seat 57 = .ok (.invokevirtual 236, 3) := dk_182 0 236 (dk_at dksX2_seat_2 10 rfl rfl)
theorem dX2_seat_60 : decode cX2_seat 60 = .ok (.invokeinterface 105 3, 5) := by decide +kernel
theorem dX2_seat_65 : decode cX2_seat 65 = .ok (.checkcast 231, 3) := dk_192 0 231 (dk_at dksX2_seat_2 18 rfl rfl)
theorem dX2_seat_68 : decode cX2_seat 68 = .ok (.astore 4, 2) := dk_58 4 (dk_at dksX2_seat_2 21 rfl rfl)
theorem dX2_seat_70 : decode cX2_seat 70 = .ok (.aload_n 0, 1) := dk_42 (dk_at dksX2_seat_2 23 rfl rfl)
theorem dX2_seat_71 : decode cX2_seat 71 = .ok (.dup, 1) := dk_89 (dk_at dksX2_seat_3 0 rfl rfl)
theorem dX2_seat_72 : decode cX2_seat 72 = .ok (.getfield 41, 3) := dk_180 0 41 (dk_at dksX2_seat_3 1 rfl rfl)
theorem dX2_seat_75 : decode cX2_seat 75 = .ok (.iconst 2, 1) := dk_5 (dk_at dksX2_seat_3 4 rfl rfl)
theorem dX2_seat_76 : decode cX2_seat 76 = .ok (.iload_n 2, 1) := dk_28 (dk_at dksX2_seat_3 5 rfl rfl)
theorem dX2_seat_77 : decode cX2_seat 77 = .ok (.imul, 1) := dk_104 (dk_at dksX2_seat_3 6 rfl rfl)
theorem dX2_seat_78 : decode cX2_seat 78 = .ok (.iadd, 1) := dk_96 (dk_at dksX2_seat_3 7 rfl rfl)
theorem dX2_seat_79 : decode cX2_seat 79 = .ok (.putfield 41, 3) := dk_181 0 41 (dk_at dksX2_seat_3 8 rfl rfl)
theorem dX2_seat_82 : decode cX2_seat 82 = .ok (.aload_n 3, 1) := dk_45 (dk_at dksX2_seat_3 11 rfl rfl)
theorem dX2_seat_83 : decode cX2_seat 83 = .ok (.getfield 233, 3) := dk_180 0 233 (dk_at dksX2_seat_3 12 rfl rfl)
theorem dX2_seat_86 : decode cX2_seat 86 = .ok (.iload_n 2, 1) := dk_28 (dk_at dksX2_seat_3 15 rfl rfl)
theorem dX2_seat_87 : decode cX2_seat 87 = .ok (.iadd, 1) := dk_96 (dk_at dksX2_seat_3 16 rfl rfl)
theorem dX2_seat_88 : decode cX2_seat 88 = .ok (.ireturn, 1) := dk_172 (dk_at dksX2_seat_3 17 rfl rfl)
abbrev cX2_pass : ByteArray := prog_6_method_33_code
def yX2_pass : MethodName := ⟨RX2, "pass", "(I)I"⟩
def dkwX2_pass_1 : List UInt8 := [96, 61, 132, 3, 1, 167, 255, 241, 28, 172]
abbrev dktX2_pass_1 : List UInt8 := dkwX2_pass_1 ++ []
def dkwX2_pass_0 : List UInt8 := [27, 4, 16, 60, 184, 0, 85, 184, 0, 160, 3, 61, 3, 62, 29, 27, 162, 0, 16, 28, 42, 182, 1, 38]
abbrev dktX2_pass_0 : List UInt8 := dkwX2_pass_0 ++ dktX2_pass_1
theorem dksX2_pass_0 : cX2_pass.data.toList.drop 0 = dktX2_pass_0 := by decide +kernel
theorem dksX2_pass_1 : cX2_pass.data.toList.drop 24 = dktX2_pass_1 := dk_seg dksX2_pass_0 24 rfl rfl
theorem dX2_pass_0 : decode cX2_pass 0 = .ok (.iload_n 1, 1) := dk_27 (dk_at dksX2_pass_0 0 rfl rfl)
theorem dX2_pass_1 : decode cX2_pass 1 = .ok (.iconst 1, 1) := dk_4 (dk_at dksX2_pass_0 1 rfl rfl)
theorem dX2_pass_2 : decode cX2_pass 2 = .ok (.bipush 60, 2) := dk_16 60 (dk_at dksX2_pass_0 2 rfl rfl)
theorem dX2_pass_4 : decode cX2_pass 4 = .ok (.invokestatic 85, 3) := dk_184 0 85 (dk_at dksX2_pass_0 4 rfl rfl)
theorem dX2_pass_7 : decode cX2_pass 7 = .ok (.invokestatic 160, 3) := dk_184 0 160 (dk_at dksX2_pass_0 7 rfl rfl)
theorem dX2_pass_10 : decode cX2_pass 10 = .ok (.iconst 0, 1) := dk_3 (dk_at dksX2_pass_0 10 rfl rfl)
theorem dX2_pass_11 : decode cX2_pass 11 = .ok (.istore_n 2, 1) := dk_61 (dk_at dksX2_pass_0 11 rfl rfl)
theorem dX2_pass_12 : decode cX2_pass 12 = .ok (.iconst 0, 1) := dk_3 (dk_at dksX2_pass_0 12 rfl rfl)
theorem dX2_pass_13 : decode cX2_pass 13 = .ok (.istore_n 3, 1) := dk_62 (dk_at dksX2_pass_0 13 rfl rfl)
theorem dX2_pass_14 : decode cX2_pass 14 = .ok (.iload_n 3, 1) := dk_29 (dk_at dksX2_pass_0 14 rfl rfl)
theorem dX2_pass_15 : decode cX2_pass 15 = .ok (.iload_n 1, 1) := dk_27 (dk_at dksX2_pass_0 15 rfl rfl)
theorem dX2_pass_16 : decode cX2_pass 16 = .ok (.if_icmp .ge 16, 3) := dk_162 0 16 (dk_at dksX2_pass_0 16 rfl rfl)
theorem dX2_pass_19 : decode cX2_pass 19 = .ok (.iload_n 2, 1) := dk_28 (dk_at dksX2_pass_0 19 rfl rfl)
theorem dX2_pass_20 : decode cX2_pass 20 = .ok (.aload_n 0, 1) := dk_42 (dk_at dksX2_pass_0 20 rfl rfl)
theorem dX2_pass_21 : decode cX2_pass 21 = .ok (.invokevirtual 294, 3) := dk_182 1 38 (dk_at dksX2_pass_0 21 rfl rfl)
theorem dX2_pass_24 : decode cX2_pass 24 = .ok (.iadd, 1) := dk_96 (dk_at dksX2_pass_1 0 rfl rfl)
theorem dX2_pass_25 : decode cX2_pass 25 = .ok (.istore_n 2, 1) := dk_61 (dk_at dksX2_pass_1 1 rfl rfl)
theorem dX2_pass_26 : decode cX2_pass 26 = .ok (.iinc 3 1, 3) := dk_132 3 1 (dk_at dksX2_pass_1 2 rfl rfl)
theorem dX2_pass_29 : decode cX2_pass 29 = .ok (.goto (-15), 3) := dk_167 255 241 (dk_at dksX2_pass_1 5 rfl rfl)
theorem dX2_pass_32 : decode cX2_pass 32 = .ok (.iload_n 2, 1) := dk_28 (dk_at dksX2_pass_1 8 rfl rfl)
theorem dX2_pass_33 : decode cX2_pass 33 = .ok (.ireturn, 1) := dk_172 (dk_at dksX2_pass_1 9 rfl rfl)
abbrev cX2_live : ByteArray := prog_6_method_32_code
def yX2_live : MethodName := ⟨RX2, "live", "()I"⟩
def dkwX2_live_8 : List UInt8 := [167, 255, 209, 42, 180, 0, 60, 27, 100, 172]
abbrev dktX2_live_8 : List UInt8 := dkwX2_live_8 ++ []
def dkwX2_live_7 : List UInt8 := [185, 0, 93, 2, 0, 192, 0, 207, 182, 1, 34, 185, 0, 105, 3, 0, 192, 0, 207, 58, 4, 132, 3, 1]
abbrev dktX2_live_7 : List UInt8 := dkwX2_live_7 ++ dktX2_live_8
def dkwX2_live_6 : List UInt8 := [42, 180, 0, 18, 185, 0, 81, 1, 0, 162, 0, 40, 42, 180, 0, 18, 29, 42, 180, 0, 18, 29]
abbrev dktX2_live_6 : List UInt8 := dkwX2_live_6 ++ dktX2_live_7
def dkwX2_live_5 : List UInt8 := [61, 42, 89, 180, 0, 41, 28, 100, 181, 0, 41, 42, 89, 180, 0, 78, 28, 96, 181, 0, 78, 3, 62, 29]
abbrev dktX2_live_5 : List UInt8 := dkwX2_live_5 ++ dktX2_live_6
def dkwX2_live_4 : List UInt8 := [182, 1, 28, 42, 182, 1, 31, 16, 12, 164, 0, 14, 6, 42, 180, 0, 41, 184, 0, 111, 167, 0, 4, 3]
abbrev dktX2_live_4 : List UInt8 := dkwX2_live_4 ++ dktX2_live_5
def dkwX2_live_3 : List UInt8 := [182, 1, 17, 182, 1, 20, 182, 0, 188, 132, 2, 1, 167, 255, 202, 42, 182, 1, 22, 42, 182, 1, 25, 42]
abbrev dktX2_live_3 : List UInt8 := dkwX2_live_3 ++ dktX2_live_4
def dkwX2_live_2 : List UInt8 := [185, 0, 93, 2, 0, 192, 0, 109, 42, 42, 180, 0, 12, 28, 185, 0, 93, 2, 0, 192, 0, 109]
abbrev dktX2_live_2 : List UInt8 := dkwX2_live_2 ++ dktX2_live_3
def dkwX2_live_1 : List UInt8 := [61, 28, 42, 180, 0, 12, 185, 0, 81, 1, 0, 162, 0, 47, 42, 28, 42, 180, 0, 12, 28]
abbrev dktX2_live_1 : List UInt8 := dkwX2_live_1 ++ dktX2_live_2
def dkwX2_live_0 : List UInt8 := [42, 180, 0, 60, 60, 42, 89, 180, 0, 57, 4, 96, 181, 0, 57, 42, 182, 1, 11, 42, 182, 1, 14, 3]
abbrev dktX2_live_0 : List UInt8 := dkwX2_live_0 ++ dktX2_live_1
theorem dksX2_live_0 : cX2_live.data.toList.drop 0 = dktX2_live_0 := by decide +kernel
theorem dksX2_live_1 : cX2_live.data.toList.drop 24 = dktX2_live_1 := dk_seg dksX2_live_0 24 rfl rfl
theorem dksX2_live_2 : cX2_live.data.toList.drop 45 = dktX2_live_2 := dk_seg dksX2_live_1 21 rfl rfl
theorem dksX2_live_3 : cX2_live.data.toList.drop 67 = dktX2_live_3 := dk_seg dksX2_live_2 22 rfl rfl
theorem dksX2_live_4 : cX2_live.data.toList.drop 91 = dktX2_live_4 := dk_seg dksX2_live_3 24 rfl rfl
theorem dksX2_live_5 : cX2_live.data.toList.drop 115 = dktX2_live_5 := dk_seg dksX2_live_4 24 rfl rfl
theorem dksX2_live_6 : cX2_live.data.toList.drop 139 = dktX2_live_6 := dk_seg dksX2_live_5 24 rfl rfl
theorem dksX2_live_7 : cX2_live.data.toList.drop 161 = dktX2_live_7 := dk_seg dksX2_live_6 22 rfl rfl
theorem dksX2_live_8 : cX2_live.data.toList.drop 185 = dktX2_live_8 := dk_seg dksX2_live_7 24 rfl rfl
theorem dX2_live_0 : decode cX2_live 0 = .ok (.aload_n 0, 1) := dk_42 (dk_at dksX2_live_0 0 rfl rfl)
theorem dX2_live_1 : decode cX2_live 1 = .ok (.getfield 60, 3) := dk_180 0 60 (dk_at dksX2_live_0 1 rfl rfl)
theorem dX2_live_4 : decode cX2_live 4 = .ok (.istore_n 1, 1) := dk_60 (dk_at dksX2_live_0 4 rfl rfl)
theorem dX2_live_5 : decode cX2_live 5 = .ok (.aload_n 0, 1) := dk_42 (dk_at dksX2_live_0 5 rfl rfl)
theorem dX2_live_6 : decode cX2_live 6 = .ok (.dup, 1) := dk_89 (dk_at dksX2_live_0 6 rfl rfl)
theorem dX2_live_7 : decode cX2_live 7 = .ok (.getfield 57, 3) := dk_180 0 57 (dk_at dksX2_live_0 7 rfl rfl)
theorem dX2_live_10 : decode cX2_live 10 = .ok (.iconst 1, 1) := dk_4 (dk_at dksX2_live_0 10 rfl rfl)
theorem dX2_live_11 : decode cX2_live 11 = .ok (.iadd, 1) := dk_96 (dk_at dksX2_live_0 11 rfl rfl)
theorem dX2_live_12 : decode cX2_live 12 = .ok (.putfield 57, 3) := dk_181 0 57 (dk_at dksX2_live_0 12 rfl rfl)
theorem dX2_live_15 : decode cX2_live 15 = .ok (.aload_n 0, 1) := dk_42 (dk_at dksX2_live_0 15 rfl rfl)
theorem dX2_live_16 : decode cX2_live 16 = .ok (.invokevirtual 267, 3) := dk_182 1 11 (dk_at dksX2_live_0 16 rfl rfl)
theorem dX2_live_19 : decode cX2_live 19 = .ok (.aload_n 0, 1) := dk_42 (dk_at dksX2_live_0 19 rfl rfl)
theorem dX2_live_20 : decode cX2_live 20 = .ok (.invokevirtual 270, 3) := dk_182 1 14 (dk_at dksX2_live_0 20 rfl rfl)
theorem dX2_live_23 : decode cX2_live 23 = .ok (.iconst 0, 1) := dk_3 (dk_at dksX2_live_0 23 rfl rfl)
theorem dX2_live_24 : decode cX2_live 24 = .ok (.istore_n 2, 1) := dk_61 (dk_at dksX2_live_1 0 rfl rfl)
theorem dX2_live_25 : decode cX2_live 25 = .ok (.iload_n 2, 1) := dk_28 (dk_at dksX2_live_1 1 rfl rfl)
theorem dX2_live_26 : decode cX2_live 26 = .ok (.aload_n 0, 1) := dk_42 (dk_at dksX2_live_1 2 rfl rfl)
theorem dX2_live_27 : decode cX2_live 27 = .ok (.getfield 12, 3) := dk_180 0 12 (dk_at dksX2_live_1 3 rfl rfl)
theorem dX2_live_30 : decode cX2_live 30 = .ok (.invokeinterface 81 1, 5) := by decide +kernel
theorem dX2_live_35 : decode cX2_live 35 = .ok (.if_icmp .ge 47, 3) := dk_162 0 47 (dk_at dksX2_live_1 11 rfl rfl)
theorem dX2_live_38 : decode cX2_live 38 = .ok (.aload_n 0, 1) := dk_42 (dk_at dksX2_live_1 14 rfl rfl)
theorem dX2_live_39 : decode cX2_live 39 = .ok (.iload_n 2, 1) := dk_28 (dk_at dksX2_live_1 15 rfl rfl)
theorem dX2_live_40 : decode cX2_live 40 = .ok (.aload_n 0, 1) := dk_42 (dk_at dksX2_live_1 16 rfl rfl)
theorem dX2_live_41 : decode cX2_live 41 = .ok (.getfield 12, 3) := dk_180 0 12 (dk_at dksX2_live_1 17 rfl rfl)
theorem dX2_live_44 : decode cX2_live 44 = .ok (.iload_n 2, 1) := dk_28 (dk_at dksX2_live_1 20 rfl rfl)
theorem dX2_live_45 : decode cX2_live 45 = .ok (.invokeinterface 93 2, 5) := by decide +kernel
theorem dX2_live_50 : decode cX2_live 50 = .ok (.checkcast 109, 3) := dk_192 0 109 (dk_at dksX2_live_2 5 rfl rfl)
theorem dX2_live_53 : decode cX2_live 53 = .ok (.aload_n 0, 1) := dk_42 (dk_at dksX2_live_2 8 rfl rfl)
theorem dX2_live_54 : decode cX2_live 54 = .ok (.aload_n 0, 1) := dk_42 (dk_at dksX2_live_2 9 rfl rfl)
theorem dX2_live_55 : decode cX2_live 55 = .ok (.getfield 12, 3) := dk_180 0 12 (dk_at dksX2_live_2 10 rfl rfl)
theorem dX2_live_58 : decode cX2_live 58 = .ok (.iload_n 2, 1) := dk_28 (dk_at dksX2_live_2 13 rfl rfl)
theorem dX2_live_59 : decode cX2_live 59 = .ok (.invokeinterface 93 2, 5) := by decide +kernel
theorem dX2_live_64 : decode cX2_live 64 = .ok (.checkcast 109, 3) := dk_192 0 109 (dk_at dksX2_live_2 19 rfl rfl)
theorem dX2_live_67 : decode cX2_live 67 = .ok (.invokevirtual 273, 3) := dk_182 1 17 (dk_at dksX2_live_3 0 rfl rfl)
theorem dX2_live_70 : decode cX2_live 70 = .ok (.invokevirtual 276, 3) := dk_182 1 20 (dk_at dksX2_live_3 3 rfl rfl)
theorem dX2_live_73 : decode cX2_live 73 = .ok (.invokevirtual 188, 3) := dk_182 0 188 (dk_at dksX2_live_3 6 rfl rfl)
theorem dX2_live_76 : decode cX2_live 76 = .ok (.iinc 2 1, 3) := dk_132 2 1 (dk_at dksX2_live_3 9 rfl rfl)
theorem dX2_live_79 : decode cX2_live 79 = .ok (.goto (-54), 3) := dk_167 255 202 (dk_at dksX2_live_3 12 rfl rfl)
theorem dX2_live_82 : decode cX2_live 82 = .ok (.aload_n 0, 1) := dk_42 (dk_at dksX2_live_3 15 rfl rfl)
theorem dX2_live_83 : decode cX2_live 83 = .ok (.invokevirtual 278, 3) := dk_182 1 22 (dk_at dksX2_live_3 16 rfl rfl)
theorem dX2_live_86 : decode cX2_live 86 = .ok (.aload_n 0, 1) := dk_42 (dk_at dksX2_live_3 19 rfl rfl)
theorem dX2_live_87 : decode cX2_live 87 = .ok (.invokevirtual 281, 3) := dk_182 1 25 (dk_at dksX2_live_3 20 rfl rfl)
theorem dX2_live_90 : decode cX2_live 90 = .ok (.aload_n 0, 1) := dk_42 (dk_at dksX2_live_3 23 rfl rfl)
theorem dX2_live_91 : decode cX2_live 91 = .ok (.invokevirtual 284, 3) := dk_182 1 28 (dk_at dksX2_live_4 0 rfl rfl)
theorem dX2_live_94 : decode cX2_live 94 = .ok (.aload_n 0, 1) := dk_42 (dk_at dksX2_live_4 3 rfl rfl)
theorem dX2_live_95 : decode cX2_live 95 = .ok (.invokevirtual 287, 3) := dk_182 1 31 (dk_at dksX2_live_4 4 rfl rfl)
theorem dX2_live_98 : decode cX2_live 98 = .ok (.bipush 12, 2) := dk_16 12 (dk_at dksX2_live_4 7 rfl rfl)
theorem dX2_live_100 : decode cX2_live 100 = .ok (.if_icmp .le 14, 3) := dk_164 0 14 (dk_at dksX2_live_4 9 rfl rfl)
theorem dX2_live_103 : decode cX2_live 103 = .ok (.iconst 3, 1) := dk_6 (dk_at dksX2_live_4 12 rfl rfl)
theorem dX2_live_104 : decode cX2_live 104 = .ok (.aload_n 0, 1) := dk_42 (dk_at dksX2_live_4 13 rfl rfl)
theorem dX2_live_105 : decode cX2_live 105 = .ok (.getfield 41, 3) := dk_180 0 41 (dk_at dksX2_live_4 14 rfl rfl)
theorem dX2_live_108 : decode cX2_live 108 = .ok (.invokestatic 111, 3) := dk_184 0 111 (dk_at dksX2_live_4 17 rfl rfl)
theorem dX2_live_111 : decode cX2_live 111 = .ok (.goto 4, 3) := dk_167 0 4 (dk_at dksX2_live_4 20 rfl rfl)
theorem dX2_live_114 : decode cX2_live 114 = .ok (.iconst 0, 1) := dk_3 (dk_at dksX2_live_4 23 rfl rfl)
theorem dX2_live_115 : decode cX2_live 115 = .ok (.istore_n 2, 1) := dk_61 (dk_at dksX2_live_5 0 rfl rfl)
theorem dX2_live_116 : decode cX2_live 116 = .ok (.aload_n 0, 1) := dk_42 (dk_at dksX2_live_5 1 rfl rfl)
theorem dX2_live_117 : decode cX2_live 117 = .ok (.dup, 1) := dk_89 (dk_at dksX2_live_5 2 rfl rfl)
theorem dX2_live_118 : decode cX2_live 118 = .ok (.getfield 41, 3) := dk_180 0 41 (dk_at dksX2_live_5 3 rfl rfl)
theorem dX2_live_121 : decode cX2_live 121 = .ok (.iload_n 2, 1) := dk_28 (dk_at dksX2_live_5 6 rfl rfl)
theorem dX2_live_122 : decode cX2_live 122 = .ok (.isub, 1) := dk_100 (dk_at dksX2_live_5 7 rfl rfl)
theorem dX2_live_123 : decode cX2_live 123 = .ok (.putfield 41, 3) := dk_181 0 41 (dk_at dksX2_live_5 8 rfl rfl)
theorem dX2_live_126 : decode cX2_live 126 = .ok (.aload_n 0, 1) := dk_42 (dk_at dksX2_live_5 11 rfl rfl)
theorem dX2_live_127 : decode cX2_live 127 = .ok (.dup, 1) := dk_89 (dk_at dksX2_live_5 12 rfl rfl)
theorem dX2_live_128 : decode cX2_live 128 = .ok (.getfield 78, 3) := dk_180 0 78 (dk_at dksX2_live_5 13 rfl rfl)
theorem dX2_live_131 : decode cX2_live 131 = .ok (.iload_n 2, 1) := dk_28 (dk_at dksX2_live_5 16 rfl rfl)
theorem dX2_live_132 : decode cX2_live 132 = .ok (.iadd, 1) := dk_96 (dk_at dksX2_live_5 17 rfl rfl)
theorem dX2_live_133 : decode cX2_live 133 = .ok (.putfield 78, 3) := dk_181 0 78 (dk_at dksX2_live_5 18 rfl rfl)
theorem dX2_live_136 : decode cX2_live 136 = .ok (.iconst 0, 1) := dk_3 (dk_at dksX2_live_5 21 rfl rfl)
theorem dX2_live_137 : decode cX2_live 137 = .ok (.istore_n 3, 1) := dk_62 (dk_at dksX2_live_5 22 rfl rfl)
theorem dX2_live_138 : decode cX2_live 138 = .ok (.iload_n 3, 1) := dk_29 (dk_at dksX2_live_5 23 rfl rfl)
theorem dX2_live_139 : decode cX2_live 139 = .ok (.aload_n 0, 1) := dk_42 (dk_at dksX2_live_6 0 rfl rfl)
theorem dX2_live_140 : decode cX2_live 140 = .ok (.getfield 18, 3) := dk_180 0 18 (dk_at dksX2_live_6 1 rfl rfl)
theorem dX2_live_143 : decode cX2_live 143 = .ok (.invokeinterface 81 1, 5) := by decide +kernel
theorem dX2_live_148 : decode cX2_live 148 = .ok (.if_icmp .ge 40, 3) := dk_162 0 40 (dk_at dksX2_live_6 9 rfl rfl)
theorem dX2_live_151 : decode cX2_live 151 = .ok (.aload_n 0, 1) := dk_42 (dk_at dksX2_live_6 12 rfl rfl)
theorem dX2_live_152 : decode cX2_live 152 = .ok (.getfield 18, 3) := dk_180 0 18 (dk_at dksX2_live_6 13 rfl rfl)
theorem dX2_live_155 : decode cX2_live 155 = .ok (.iload_n 3, 1) := dk_29 (dk_at dksX2_live_6 16 rfl rfl)
theorem dX2_live_156 : decode cX2_live 156 = .ok (.aload_n 0, 1) := dk_42 (dk_at dksX2_live_6 17 rfl rfl)
theorem dX2_live_157 : decode cX2_live 157 = .ok (.getfield 18, 3) := dk_180 0 18 (dk_at dksX2_live_6 18 rfl rfl)
theorem dX2_live_160 : decode cX2_live 160 = .ok (.iload_n 3, 1) := dk_29 (dk_at dksX2_live_6 21 rfl rfl)
theorem dX2_live_161 : decode cX2_live 161 = .ok (.invokeinterface 93 2, 5) := by decide +kernel
theorem dX2_live_166 : decode cX2_live 166 = .ok (.checkcast 207, 3) := dk_192 0 207 (dk_at dksX2_live_7 5 rfl rfl)
theorem dX2_live_169 : decode cX2_live 169 = .ok (.invokevirtual 290, 3) := dk_182 1 34 (dk_at dksX2_live_7 8 rfl rfl)
theorem dX2_live_172 : decode cX2_live 172 = .ok (.invokeinterface 105 3, 5) := by decide +kernel
theorem dX2_live_177 : decode cX2_live 177 = .ok (.checkcast 207, 3) := dk_192 0 207 (dk_at dksX2_live_7 16 rfl rfl)
theorem dX2_live_180 : decode cX2_live 180 = .ok (.astore 4, 2) := dk_58 4 (dk_at dksX2_live_7 19 rfl rfl)
theorem dX2_live_182 : decode cX2_live 182 = .ok (.iinc 3 1, 3) := dk_132 3 1 (dk_at dksX2_live_7 21 rfl rfl)
theorem dX2_live_185 : decode cX2_live 185 = .ok (.goto (-47), 3) := dk_167 255 209 (dk_at dksX2_live_8 0 rfl rfl)
theorem dX2_live_188 : decode cX2_live 188 = .ok (.aload_n 0, 1) := dk_42 (dk_at dksX2_live_8 3 rfl rfl)
theorem dX2_live_189 : decode cX2_live 189 = .ok (.getfield 60, 3) := dk_180 0 60 (dk_at dksX2_live_8 4 rfl rfl)
theorem dX2_live_192 : decode cX2_live 192 = .ok (.iload_n 1, 1) := dk_27 (dk_at dksX2_live_8 7 rfl rfl)
theorem dX2_live_193 : decode cX2_live 193 = .ok (.isub, 1) := dk_100 (dk_at dksX2_live_8 8 rfl rfl)
theorem dX2_live_194 : decode cX2_live 194 = .ok (.ireturn, 1) := dk_172 (dk_at dksX2_live_8 9 rfl rfl)
abbrev cX2_grow : ByteArray := prog_6_method_26_code
def yX2_grow : MethodName := ⟨RX2, "grow", "()V"⟩
def dkwX2_grow_2 : List UInt8 := [79, 132, 1, 1, 167, 255, 228, 177]
abbrev dktX2_grow_2 : List UInt8 := dkwX2_grow_2 ++ []
def dkwX2_grow_1 : List UInt8 := [27, 16, 12, 162, 0, 28, 42, 180, 0, 24, 27, 16, 20, 42, 180, 0, 24, 27, 46, 4, 96, 184, 0, 111]
abbrev dktX2_grow_1 : List UInt8 := dkwX2_grow_1 ++ dktX2_grow_2
def dkwX2_grow_0 : List UInt8 := [42, 182, 0, 240, 5, 16, 8, 184, 0, 85, 153, 0, 45, 42, 180, 0, 57, 6, 112, 154, 0, 36, 3, 60]
abbrev dktX2_grow_0 : List UInt8 := dkwX2_grow_0 ++ dktX2_grow_1
theorem dksX2_grow_0 : cX2_grow.data.toList.drop 0 = dktX2_grow_0 := by decide +kernel
theorem dksX2_grow_1 : cX2_grow.data.toList.drop 24 = dktX2_grow_1 := dk_seg dksX2_grow_0 24 rfl rfl
theorem dksX2_grow_2 : cX2_grow.data.toList.drop 48 = dktX2_grow_2 := dk_seg dksX2_grow_1 24 rfl rfl
theorem dX2_grow_0 : decode cX2_grow 0 = .ok (.aload_n 0, 1) := dk_42 (dk_at dksX2_grow_0 0 rfl rfl)
theorem dX2_grow_1 : decode cX2_grow 1 = .ok (.invokevirtual 240, 3) := dk_182 0 240 (dk_at dksX2_grow_0 1 rfl rfl)
theorem dX2_grow_4 : decode cX2_grow 4 = .ok (.iconst 2, 1) := dk_5 (dk_at dksX2_grow_0 4 rfl rfl)
theorem dX2_grow_5 : decode cX2_grow 5 = .ok (.bipush 8, 2) := dk_16 8 (dk_at dksX2_grow_0 5 rfl rfl)
theorem dX2_grow_7 : decode cX2_grow 7 = .ok (.invokestatic 85, 3) := dk_184 0 85 (dk_at dksX2_grow_0 7 rfl rfl)
theorem dX2_grow_10 : decode cX2_grow 10 = .ok (.ifCond .eq 45, 3) := dk_153 0 45 (dk_at dksX2_grow_0 10 rfl rfl)
theorem dX2_grow_13 : decode cX2_grow 13 = .ok (.aload_n 0, 1) := dk_42 (dk_at dksX2_grow_0 13 rfl rfl)
theorem dX2_grow_14 : decode cX2_grow 14 = .ok (.getfield 57, 3) := dk_180 0 57 (dk_at dksX2_grow_0 14 rfl rfl)
theorem dX2_grow_17 : decode cX2_grow 17 = .ok (.iconst 3, 1) := dk_6 (dk_at dksX2_grow_0 17 rfl rfl)
theorem dX2_grow_18 : decode cX2_grow 18 = .ok (.irem, 1) := dk_112 (dk_at dksX2_grow_0 18 rfl rfl)
theorem dX2_grow_19 : decode cX2_grow 19 = .ok (.ifCond .ne 36, 3) := dk_154 0 36 (dk_at dksX2_grow_0 19 rfl rfl)
theorem dX2_grow_22 : decode cX2_grow 22 = .ok (.iconst 0, 1) := dk_3 (dk_at dksX2_grow_0 22 rfl rfl)
theorem dX2_grow_23 : decode cX2_grow 23 = .ok (.istore_n 1, 1) := dk_60 (dk_at dksX2_grow_0 23 rfl rfl)
theorem dX2_grow_24 : decode cX2_grow 24 = .ok (.iload_n 1, 1) := dk_27 (dk_at dksX2_grow_1 0 rfl rfl)
theorem dX2_grow_25 : decode cX2_grow 25 = .ok (.bipush 12, 2) := dk_16 12 (dk_at dksX2_grow_1 1 rfl rfl)
theorem dX2_grow_27 : decode cX2_grow 27 = .ok (.if_icmp .ge 28, 3) := dk_162 0 28 (dk_at dksX2_grow_1 3 rfl rfl)
theorem dX2_grow_30 : decode cX2_grow 30 = .ok (.aload_n 0, 1) := dk_42 (dk_at dksX2_grow_1 6 rfl rfl)
theorem dX2_grow_31 : decode cX2_grow 31 = .ok (.getfield 24, 3) := dk_180 0 24 (dk_at dksX2_grow_1 7 rfl rfl)
theorem dX2_grow_34 : decode cX2_grow 34 = .ok (.iload_n 1, 1) := dk_27 (dk_at dksX2_grow_1 10 rfl rfl)
theorem dX2_grow_35 : decode cX2_grow 35 = .ok (.bipush 20, 2) := dk_16 20 (dk_at dksX2_grow_1 11 rfl rfl)
theorem dX2_grow_37 : decode cX2_grow 37 = .ok (.aload_n 0, 1) := dk_42 (dk_at dksX2_grow_1 13 rfl rfl)
theorem dX2_grow_38 : decode cX2_grow 38 = .ok (.getfield 24, 3) := dk_180 0 24 (dk_at dksX2_grow_1 14 rfl rfl)
theorem dX2_grow_41 : decode cX2_grow 41 = .ok (.iload_n 1, 1) := dk_27 (dk_at dksX2_grow_1 17 rfl rfl)
theorem dX2_grow_42 : decode cX2_grow 42 = .ok (.iaload, 1) := dk_46 (dk_at dksX2_grow_1 18 rfl rfl)
theorem dX2_grow_43 : decode cX2_grow 43 = .ok (.iconst 1, 1) := dk_4 (dk_at dksX2_grow_1 19 rfl rfl)
theorem dX2_grow_44 : decode cX2_grow 44 = .ok (.iadd, 1) := dk_96 (dk_at dksX2_grow_1 20 rfl rfl)
theorem dX2_grow_45 : decode cX2_grow 45 = .ok (.invokestatic 111, 3) := dk_184 0 111 (dk_at dksX2_grow_1 21 rfl rfl)
theorem dX2_grow_48 : decode cX2_grow 48 = .ok (.iastore, 1) := dk_79 (dk_at dksX2_grow_2 0 rfl rfl)
theorem dX2_grow_49 : decode cX2_grow 49 = .ok (.iinc 1 1, 3) := dk_132 1 1 (dk_at dksX2_grow_2 1 rfl rfl)
theorem dX2_grow_52 : decode cX2_grow 52 = .ok (.goto (-28), 3) := dk_167 255 228 (dk_at dksX2_grow_2 4 rfl rfl)
theorem dX2_grow_55 : decode cX2_grow 55 = .ok (.return_, 1) := dk_177 (dk_at dksX2_grow_2 7 rfl rfl)
abbrev cX2_month : ByteArray := prog_6_method_6_code
def yX2_month : MethodName := ⟨RX2, "month", "()I"⟩
def dkwX2_month_0 : List UInt8 := [42, 180, 0, 57, 16, 30, 108, 16, 12, 112, 172]
abbrev dktX2_month_0 : List UInt8 := dkwX2_month_0 ++ []
theorem dksX2_month_0 : cX2_month.data.toList.drop 0 = dktX2_month_0 := by decide +kernel
theorem dX2_month_0 : decode cX2_month 0 = .ok (.aload_n 0, 1) := dk_42 (dk_at dksX2_month_0 0 rfl rfl)
theorem dX2_month_1 : decode cX2_month 1 = .ok (.getfield 57, 3) := dk_180 0 57 (dk_at dksX2_month_0 1 rfl rfl)
theorem dX2_month_4 : decode cX2_month 4 = .ok (.bipush 30, 2) := dk_16 30 (dk_at dksX2_month_0 4 rfl rfl)
theorem dX2_month_6 : decode cX2_month 6 = .ok (.idiv, 1) := dk_108 (dk_at dksX2_month_0 6 rfl rfl)
theorem dX2_month_7 : decode cX2_month 7 = .ok (.bipush 12, 2) := dk_16 12 (dk_at dksX2_month_0 7 rfl rfl)
theorem dX2_month_9 : decode cX2_month 9 = .ok (.irem, 1) := dk_112 (dk_at dksX2_month_0 9 rfl rfl)
theorem dX2_month_10 : decode cX2_month 10 = .ok (.ireturn, 1) := dk_172 (dk_at dksX2_month_0 10 rfl rfl)
abbrev cX2_moult : ByteArray := prog_6_method_27_code
def yX2_moult : MethodName := ⟨RX2, "moult", "()V"⟩
def dkwX2_moult_6 : List UInt8 := [182, 0, 250, 182, 0, 188, 132, 3, 1, 167, 255, 148, 177]
abbrev dktX2_moult_6 : List UInt8 := dkwX2_moult_6 ++ []
def dkwX2_moult_5 : List UInt8 := [21, 5, 96, 181, 0, 60, 42, 29, 28, 153, 0, 11, 25, 4, 182, 0, 246, 167, 0, 10, 25, 4, 21, 5]
abbrev dktX2_moult_5 : List UInt8 := dkwX2_moult_5 ++ dktX2_moult_6
def dkwX2_moult_4 : List UInt8 := [3, 54, 5, 42, 180, 0, 28, 25, 4, 180, 0, 195, 92, 46, 21, 5, 96, 79, 42, 89, 180, 0, 60]
abbrev dktX2_moult_4 : List UInt8 := dkwX2_moult_4 ++ dktX2_moult_5
def dkwX2_moult_3 : List UInt8 := [25, 4, 182, 0, 243, 153, 0, 72, 27, 153, 0, 15, 8, 25, 4, 180, 0, 178, 184, 0, 111, 167, 0, 4]
abbrev dktX2_moult_3 : List UInt8 := dkwX2_moult_3 ++ dktX2_moult_4
def dkwX2_moult_2 : List UInt8 := [185, 0, 81, 1, 0, 162, 0, 101, 42, 180, 0, 12, 29, 185, 0, 93, 2, 0, 192, 0, 109, 58, 4]
abbrev dktX2_moult_2 : List UInt8 := dkwX2_moult_2 ++ dktX2_moult_3
def dkwX2_moult_1 : List UInt8 := [182, 0, 240, 4, 163, 0, 7, 4, 167, 0, 4, 3, 61, 3, 62, 29, 42, 180, 0, 12]
abbrev dktX2_moult_1 : List UInt8 := dkwX2_moult_1 ++ dktX2_moult_2
def dkwX2_moult_0 : List UInt8 := [42, 182, 0, 240, 16, 6, 16, 8, 184, 0, 85, 60, 42, 182, 0, 240, 16, 10, 162, 0, 11, 42]
abbrev dktX2_moult_0 : List UInt8 := dkwX2_moult_0 ++ dktX2_moult_1
theorem dksX2_moult_0 : cX2_moult.data.toList.drop 0 = dktX2_moult_0 := by decide +kernel
theorem dksX2_moult_1 : cX2_moult.data.toList.drop 22 = dktX2_moult_1 := dk_seg dksX2_moult_0 22 rfl rfl
theorem dksX2_moult_2 : cX2_moult.data.toList.drop 42 = dktX2_moult_2 := dk_seg dksX2_moult_1 20 rfl rfl
theorem dksX2_moult_3 : cX2_moult.data.toList.drop 65 = dktX2_moult_3 := dk_seg dksX2_moult_2 23 rfl rfl
theorem dksX2_moult_4 : cX2_moult.data.toList.drop 89 = dktX2_moult_4 := dk_seg dksX2_moult_3 24 rfl rfl
theorem dksX2_moult_5 : cX2_moult.data.toList.drop 112 = dktX2_moult_5 := dk_seg dksX2_moult_4 23 rfl rfl
theorem dksX2_moult_6 : cX2_moult.data.toList.drop 136 = dktX2_moult_6 := dk_seg dksX2_moult_5 24 rfl rfl
theorem dX2_moult_0 : decode cX2_moult 0 = .ok (.aload_n 0, 1) := dk_42 (dk_at dksX2_moult_0 0 rfl rfl)
theorem dX2_moult_1 : decode cX2_moult 1 = .ok (.invokevirtual 240, 3) := dk_182 0 240 (dk_at dksX2_moult_0 1 rfl rfl)
theorem dX2_moult_4 : decode cX2_moult 4 = .ok (.bipush 6, 2) := dk_16 6 (dk_at dksX2_moult_0 4 rfl rfl)
theorem dX2_moult_6 : decode cX2_moult 6 = .ok (.bipush 8, 2) := dk_16 8 (dk_at dksX2_moult_0 6 rfl rfl)
theorem dX2_moult_8 : decode cX2_moult 8 = .ok (.invokestatic 85, 3) := dk_184 0 85 (dk_at dksX2_moult_0 8 rfl rfl)
theorem dX2_moult_11 : decode cX2_moult 11 = .ok (.istore_n 1, 1) := dk_60 (dk_at dksX2_moult_0 11 rfl rfl)
theorem dX2_moult_12 : decode cX2_moult 12 = .ok (.aload_n 0, 1) := dk_42 (dk_at dksX2_moult_0 12 rfl rfl)
theorem dX2_moult_13 : decode cX2_moult 13 = .ok (.invokevirtual 240, 3) := dk_182 0 240 (dk_at dksX2_moult_0 13 rfl rfl)
theorem dX2_moult_16 : decode cX2_moult 16 = .ok (.bipush 10, 2) := dk_16 10 (dk_at dksX2_moult_0 16 rfl rfl)
theorem dX2_moult_18 : decode cX2_moult 18 = .ok (.if_icmp .ge 11, 3) := dk_162 0 11 (dk_at dksX2_moult_0 18 rfl rfl)
theorem dX2_moult_21 : decode cX2_moult 21 = .ok (.aload_n 0, 1) := dk_42 (dk_at dksX2_moult_0 21 rfl rfl)
theorem dX2_moult_22 : decode cX2_moult 22 = .ok (.invokevirtual 240, 3) := dk_182 0 240 (dk_at dksX2_moult_1 0 rfl rfl)
theorem dX2_moult_25 : decode cX2_moult 25 = .ok (.iconst 1, 1) := dk_4 (dk_at dksX2_moult_1 3 rfl rfl)
theorem dX2_moult_26 : decode cX2_moult 26 = .ok (.if_icmp .gt 7, 3) := dk_163 0 7 (dk_at dksX2_moult_1 4 rfl rfl)
theorem dX2_moult_29 : decode cX2_moult 29 = .ok (.iconst 1, 1) := dk_4 (dk_at dksX2_moult_1 7 rfl rfl)
theorem dX2_moult_30 : decode cX2_moult 30 = .ok (.goto 4, 3) := dk_167 0 4 (dk_at dksX2_moult_1 8 rfl rfl)
theorem dX2_moult_33 : decode cX2_moult 33 = .ok (.iconst 0, 1) := dk_3 (dk_at dksX2_moult_1 11 rfl rfl)
theorem dX2_moult_34 : decode cX2_moult 34 = .ok (.istore_n 2, 1) := dk_61 (dk_at dksX2_moult_1 12 rfl rfl)
theorem dX2_moult_35 : decode cX2_moult 35 = .ok (.iconst 0, 1) := dk_3 (dk_at dksX2_moult_1 13 rfl rfl)
theorem dX2_moult_36 : decode cX2_moult 36 = .ok (.istore_n 3, 1) := dk_62 (dk_at dksX2_moult_1 14 rfl rfl)
theorem dX2_moult_37 : decode cX2_moult 37 = .ok (.iload_n 3, 1) := dk_29 (dk_at dksX2_moult_1 15 rfl rfl)
theorem dX2_moult_38 : decode cX2_moult 38 = .ok (.aload_n 0, 1) := dk_42 (dk_at dksX2_moult_1 16 rfl rfl)
theorem dX2_moult_39 : decode cX2_moult 39 = .ok (.getfield 12, 3) := dk_180 0 12 (dk_at dksX2_moult_1 17 rfl rfl)
theorem dX2_moult_42 : decode cX2_moult 42 = .ok (.invokeinterface 81 1, 5) := by decide +kernel
theorem dX2_moult_47 : decode cX2_moult 47 = .ok (.if_icmp .ge 101, 3) := dk_162 0 101 (dk_at dksX2_moult_2 5 rfl rfl)
theorem dX2_moult_50 : decode cX2_moult 50 = .ok (.aload_n 0, 1) := dk_42 (dk_at dksX2_moult_2 8 rfl rfl)
theorem dX2_moult_51 : decode cX2_moult 51 = .ok (.getfield 12, 3) := dk_180 0 12 (dk_at dksX2_moult_2 9 rfl rfl)
theorem dX2_moult_54 : decode cX2_moult 54 = .ok (.iload_n 3, 1) := dk_29 (dk_at dksX2_moult_2 12 rfl rfl)
theorem dX2_moult_55 : decode cX2_moult 55 = .ok (.invokeinterface 93 2, 5) := by decide +kernel
theorem dX2_moult_60 : decode cX2_moult 60 = .ok (.checkcast 109, 3) := dk_192 0 109 (dk_at dksX2_moult_2 18 rfl rfl)
theorem dX2_moult_63 : decode cX2_moult 63 = .ok (.astore 4, 2) := dk_58 4 (dk_at dksX2_moult_2 21 rfl rfl)
theorem dX2_moult_65 : decode cX2_moult 65 = .ok (.aload 4, 2) := dk_25 4 (dk_at dksX2_moult_3 0 rfl rfl)
theorem dX2_moult_67 : decode cX2_moult 67 = .ok (.invokevirtual 243, 3) := dk_182 0 243 (dk_at dksX2_moult_3 2 rfl rfl)
theorem dX2_moult_70 : decode cX2_moult 70 = .ok (.ifCond .eq 72, 3) := dk_153 0 72 (dk_at dksX2_moult_3 5 rfl rfl)
theorem dX2_moult_73 : decode cX2_moult 73 = .ok (.iload_n 1, 1) := dk_27 (dk_at dksX2_moult_3 8 rfl rfl)
theorem dX2_moult_74 : decode cX2_moult 74 = .ok (.ifCond .eq 15, 3) := dk_153 0 15 (dk_at dksX2_moult_3 9 rfl rfl)
theorem dX2_moult_77 : decode cX2_moult 77 = .ok (.iconst 5, 1) := dk_8 (dk_at dksX2_moult_3 12 rfl rfl)
theorem dX2_moult_78 : decode cX2_moult 78 = .ok (.aload 4, 2) := dk_25 4 (dk_at dksX2_moult_3 13 rfl rfl)
theorem dX2_moult_80 : decode cX2_moult 80 = .ok (.getfield 178, 3) := dk_180 0 178 (dk_at dksX2_moult_3 15 rfl rfl)
theorem dX2_moult_83 : decode cX2_moult 83 = .ok (.invokestatic 111, 3) := dk_184 0 111 (dk_at dksX2_moult_3 18 rfl rfl)
theorem dX2_moult_86 : decode cX2_moult 86 = .ok (.goto 4, 3) := dk_167 0 4 (dk_at dksX2_moult_3 21 rfl rfl)
theorem dX2_moult_89 : decode cX2_moult 89 = .ok (.iconst 0, 1) := dk_3 (dk_at dksX2_moult_4 0 rfl rfl)
theorem dX2_moult_90 : decode cX2_moult 90 = .ok (.istore 5, 2) := dk_54 5 (dk_at dksX2_moult_4 1 rfl rfl)
theorem dX2_moult_92 : decode cX2_moult 92 = .ok (.aload_n 0, 1) := dk_42 (dk_at dksX2_moult_4 3 rfl rfl)
theorem dX2_moult_93 : decode cX2_moult 93 = .ok (.getfield 28, 3) := dk_180 0 28 (dk_at dksX2_moult_4 4 rfl rfl)
theorem dX2_moult_96 : decode cX2_moult 96 = .ok (.aload 4, 2) := dk_25 4 (dk_at dksX2_moult_4 7 rfl rfl)
theorem dX2_moult_98 : decode cX2_moult 98 = .ok (.getfield 195, 3) := dk_180 0 195 (dk_at dksX2_moult_4 9 rfl rfl)
theorem dX2_moult_101 : decode cX2_moult 101 = .ok (.dup2, 1) := dk_92 (dk_at dksX2_moult_4 12 rfl rfl)
theorem dX2_moult_102 : decode cX2_moult 102 = .ok (.iaload, 1) := dk_46 (dk_at dksX2_moult_4 13 rfl rfl)
theorem dX2_moult_103 : decode cX2_moult 103 = .ok (.iload 5, 2) := dk_21 5 (dk_at dksX2_moult_4 14 rfl rfl)
theorem dX2_moult_105 : decode cX2_moult 105 = .ok (.iadd, 1) := dk_96 (dk_at dksX2_moult_4 16 rfl rfl)
theorem dX2_moult_106 : decode cX2_moult 106 = .ok (.iastore, 1) := dk_79 (dk_at dksX2_moult_4 17 rfl rfl)
theorem dX2_moult_107 : decode cX2_moult 107 = .ok (.aload_n 0, 1) := dk_42 (dk_at dksX2_moult_4 18 rfl rfl)
theorem dX2_moult_108 : decode cX2_moult 108 = .ok (.dup, 1) := dk_89 (dk_at dksX2_moult_4 19 rfl rfl)
theorem dX2_moult_109 : decode cX2_moult 109 = .ok (.getfield 60, 3) := dk_180 0 60 (dk_at dksX2_moult_4 20 rfl rfl)
theorem dX2_moult_112 : decode cX2_moult 112 = .ok (.iload 5, 2) := dk_21 5 (dk_at dksX2_moult_5 0 rfl rfl)
theorem dX2_moult_114 : decode cX2_moult 114 = .ok (.iadd, 1) := dk_96 (dk_at dksX2_moult_5 2 rfl rfl)
theorem dX2_moult_115 : decode cX2_moult 115 = .ok (.putfield 60, 3) := dk_181 0 60 (dk_at dksX2_moult_5 3 rfl rfl)
theorem dX2_moult_118 : decode cX2_moult 118 = .ok (.aload_n 0, 1) := dk_42 (dk_at dksX2_moult_5 6 rfl rfl)
theorem dX2_moult_119 : decode cX2_moult 119 = .ok (.iload_n 3, 1) := dk_29 (dk_at dksX2_moult_5 7 rfl rfl)
theorem dX2_moult_120 : decode cX2_moult 120 = .ok (.iload_n 2, 1) := dk_28 (dk_at dksX2_moult_5 8 rfl rfl)
theorem dX2_moult_121 : decode cX2_moult 121 = .ok (.ifCond .eq 11, 3) := dk_153 0 11 (dk_at dksX2_moult_5 9 rfl rfl)
theorem dX2_moult_124 : decode cX2_moult 124 = .ok (.aload 4, 2) := dk_25 4 (dk_at dksX2_moult_5 12 rfl rfl)
theorem dX2_moult_126 : decode cX2_moult 126 = .ok (.invokevirtual 246, 3) := dk_182 0 246 (dk_at dksX2_moult_5 14 rfl rfl)
theorem dX2_moult_129 : decode cX2_moult 129 = .ok (.goto 10, 3) := dk_167 0 10 (dk_at dksX2_moult_5 17 rfl rfl)
theorem dX2_moult_132 : decode cX2_moult 132 = .ok (.aload 4, 2) := dk_25 4 (dk_at dksX2_moult_5 20 rfl rfl)
theorem dX2_moult_134 : decode cX2_moult 134 = .ok (.iload 5, 2) := dk_21 5 (dk_at dksX2_moult_5 22 rfl rfl)
theorem dX2_moult_136 : decode cX2_moult 136 = .ok (.invokevirtual 250, 3) := dk_182 0 250 (dk_at dksX2_moult_6 0 rfl rfl)
theorem dX2_moult_139 : decode cX2_moult 139 = .ok (.invokevirtual 188, 3) := dk_182 0 188 (dk_at dksX2_moult_6 3 rfl rfl)
theorem dX2_moult_142 : decode cX2_moult 142 = .ok (.iinc 3 1, 3) := dk_132 3 1 (dk_at dksX2_moult_6 6 rfl rfl)
theorem dX2_moult_145 : decode cX2_moult 145 = .ok (.goto (-108), 3) := dk_167 255 148 (dk_at dksX2_moult_6 9 rfl rfl)
theorem dX2_moult_148 : decode cX2_moult 148 = .ok (.return_, 1) := dk_177 (dk_at dksX2_moult_6 12 rfl rfl)
abbrev cX2_visit : ByteArray := prog_6_method_28_code
def yX2_visit : MethodName := ⟨RX2, "visit", "()V"⟩
def dkwX2_visit_4 : List UInt8 := [132, 1, 1, 167, 255, 167, 177]
abbrev dktX2_visit_4 : List UInt8 := dkwX2_visit_4 ++ []
def dkwX2_visit_3 : List UInt8 := [181, 0, 66, 42, 180, 0, 21, 27, 44, 182, 0, 255, 185, 0, 105, 3, 0, 192, 0, 231, 58, 4]
abbrev dktX2_visit_3 : List UInt8 := dkwX2_visit_3 ++ dktX2_visit_4
def dkwX2_visit_2 : List UInt8 := [184, 0, 111, 62, 42, 180, 0, 28, 44, 180, 0, 254, 92, 46, 29, 100, 79, 42, 89, 180, 0, 66, 29, 96]
abbrev dktX2_visit_2 : List UInt8 := dkwX2_visit_2 ++ dktX2_visit_3
def dkwX2_visit_1 : List UInt8 := [185, 0, 93, 2, 0, 192, 0, 231, 77, 44, 180, 0, 233, 42, 180, 0, 28, 44, 180, 0, 254, 46]
abbrev dktX2_visit_1 : List UInt8 := dkwX2_visit_1 ++ dktX2_visit_2
def dkwX2_visit_0 : List UInt8 := [3, 60, 27, 42, 180, 0, 21, 185, 0, 81, 1, 0, 162, 0, 82, 42, 180, 0, 21, 27]
abbrev dktX2_visit_0 : List UInt8 := dkwX2_visit_0 ++ dktX2_visit_1
theorem dksX2_visit_0 : cX2_visit.data.toList.drop 0 = dktX2_visit_0 := by decide +kernel
theorem dksX2_visit_1 : cX2_visit.data.toList.drop 20 = dktX2_visit_1 := dk_seg dksX2_visit_0 20 rfl rfl
theorem dksX2_visit_2 : cX2_visit.data.toList.drop 42 = dktX2_visit_2 := dk_seg dksX2_visit_1 22 rfl rfl
theorem dksX2_visit_3 : cX2_visit.data.toList.drop 66 = dktX2_visit_3 := dk_seg dksX2_visit_2 24 rfl rfl
theorem dksX2_visit_4 : cX2_visit.data.toList.drop 88 = dktX2_visit_4 := dk_seg dksX2_visit_3 22 rfl rfl
theorem dX2_visit_0 : decode cX2_visit 0 = .ok (.iconst 0, 1) := dk_3 (dk_at dksX2_visit_0 0 rfl rfl)
theorem dX2_visit_1 : decode cX2_visit 1 = .ok (.istore_n 1, 1) := dk_60 (dk_at dksX2_visit_0 1 rfl rfl)
theorem dX2_visit_2 : decode cX2_visit 2 = .ok (.iload_n 1, 1) := dk_27 (dk_at dksX2_visit_0 2 rfl rfl)
theorem dX2_visit_3 : decode cX2_visit 3 = .ok (.aload_n 0, 1) := dk_42 (dk_at dksX2_visit_0 3 rfl rfl)
theorem dX2_visit_4 : decode cX2_visit 4 = .ok (.getfield 21, 3) := dk_180 0 21 (dk_at dksX2_visit_0 4 rfl rfl)
theorem dX2_visit_7 : decode cX2_visit 7 = .ok (.invokeinterface 81 1, 5) := by decide +kernel
theorem dX2_visit_12 : decode cX2_visit 12 = .ok (.if_icmp .ge 82, 3) := dk_162 0 82 (dk_at dksX2_visit_0 12 rfl rfl)
theorem dX2_visit_15 : decode cX2_visit 15 = .ok (.aload_n 0, 1) := dk_42 (dk_at dksX2_visit_0 15 rfl rfl)
theorem dX2_visit_16 : decode cX2_visit 16 = .ok (.getfield 21, 3) := dk_180 0 21 (dk_at dksX2_visit_0 16 rfl rfl)
theorem dX2_visit_19 : decode cX2_visit 19 = .ok (.iload_n 1, 1) := dk_27 (dk_at dksX2_visit_0 19 rfl rfl)
theorem dX2_visit_20 : decode cX2_visit 20 = .ok (.invokeinterface 93 2, 5) := by decide +kernel
theorem dX2_visit_25 : decode cX2_visit 25 = .ok (.checkcast 231, 3) := dk_192 0 231 (dk_at dksX2_visit_1 5 rfl rfl)
theorem dX2_visit_28 : decode cX2_visit 28 = .ok (.astore_n 2, 1) := dk_77 (dk_at dksX2_visit_1 8 rfl rfl)
theorem dX2_visit_29 : decode cX2_visit 29 = .ok (.aload_n 2, 1) := dk_44 (dk_at dksX2_visit_1 9 rfl rfl)
theorem dX2_visit_30 : decode cX2_visit 30 = .ok (.getfield 233, 3) := dk_180 0 233 (dk_at dksX2_visit_1 10 rfl rfl)
theorem dX2_visit_33 : decode cX2_visit 33 = .ok (.aload_n 0, 1) := dk_42 (dk_at dksX2_visit_1 13 rfl rfl)
theorem dX2_visit_34 : decode cX2_visit 34 = .ok (.getfield 28, 3) := dk_180 0 28 (dk_at dksX2_visit_1 14 rfl rfl)
theorem dX2_visit_37 : decode cX2_visit 37 = .ok (.aload_n 2, 1) := dk_44 (dk_at dksX2_visit_1 17 rfl rfl)
theorem dX2_visit_38 : decode cX2_visit 38 = .ok (.getfield 254, 3) := dk_180 0 254 (dk_at dksX2_visit_1 18 rfl rfl)
theorem dX2_visit_41 : decode cX2_visit 41 = .ok (.iaload, 1) := dk_46 (dk_at dksX2_visit_1 21 rfl rfl)
theorem dX2_visit_42 : decode cX2_visit 42 = .ok (.invokestatic 111, 3) := dk_184 0 111 (dk_at dksX2_visit_2 0 rfl rfl)
theorem dX2_visit_45 : decode cX2_visit 45 = .ok (.istore_n 3, 1) := dk_62 (dk_at dksX2_visit_2 3 rfl rfl)
theorem dX2_visit_46 : decode cX2_visit 46 = .ok (.aload_n 0, 1) := dk_42 (dk_at dksX2_visit_2 4 rfl rfl)
theorem dX2_visit_47 : decode cX2_visit 47 = .ok (.getfield 28, 3) := dk_180 0 28 (dk_at dksX2_visit_2 5 rfl rfl)
theorem dX2_visit_50 : decode cX2_visit 50 = .ok (.aload_n 2, 1) := dk_44 (dk_at dksX2_visit_2 8 rfl rfl)
theorem dX2_visit_51 : decode cX2_visit 51 = .ok (.getfield 254, 3) := dk_180 0 254 (dk_at dksX2_visit_2 9 rfl rfl)
theorem dX2_visit_54 : decode cX2_visit 54 = .ok (.dup2, 1) := dk_92 (dk_at dksX2_visit_2 12 rfl rfl)
theorem dX2_visit_55 : decode cX2_visit 55 = .ok (.iaload, 1) := dk_46 (dk_at dksX2_visit_2 13 rfl rfl)
theorem dX2_visit_56 : decode cX2_visit 56 = .ok (.iload_n 3, 1) := dk_29 (dk_at dksX2_visit_2 14 rfl rfl)
theorem dX2_visit_57 : decode cX2_visit 57 = .ok (.isub, 1) := dk_100 (dk_at dksX2_visit_2 15 rfl rfl)
theorem dX2_visit_58 : decode cX2_visit 58 = .ok (.iastore, 1) := dk_79 (dk_at dksX2_visit_2 16 rfl rfl)
theorem dX2_visit_59 : decode cX2_visit 59 = .ok (.aload_n 0, 1) := dk_42 (dk_at dksX2_visit_2 17 rfl rfl)
theorem dX2_visit_60 : decode cX2_visit 60 = .ok (.dup, 1) := dk_89 (dk_at dksX2_visit_2 18 rfl rfl)
theorem dX2_visit_61 : decode cX2_visit 61 = .ok (.getfield 66, 3) := dk_180 0 66 (dk_at dksX2_visit_2 19 rfl rfl)
theorem dX2_visit_64 : decode cX2_visit 64 = .ok (.iload_n 3, 1) := dk_29 (dk_at dksX2_visit_2 22 rfl rfl)
theorem dX2_visit_65 : decode cX2_visit 65 = .ok (.iadd, 1) := dk_96 (dk_at dksX2_visit_2 23 rfl rfl)
theorem dX2_visit_66 : decode cX2_visit 66 = .ok (.putfield 66, 3) := dk_181 0 66 (dk_at dksX2_visit_3 0 rfl rfl)
theorem dX2_visit_69 : decode cX2_visit 69 = .ok (.aload_n 0, 1) := dk_42 (dk_at dksX2_visit_3 3 rfl rfl)
theorem dX2_visit_70 : decode cX2_visit 70 = .ok (.getfield 21, 3) := dk_180 0 21 (dk_at dksX2_visit_3 4 rfl rfl)
theorem dX2_visit_73 : decode cX2_visit 73 = .ok (.iload_n 1, 1) := dk_27 (dk_at dksX2_visit_3 7 rfl rfl)
theorem dX2_visit_74 : decode cX2_visit 74 = .ok (.aload_n 2, 1) := dk_44 (dk_at dksX2_visit_3 8 rfl rfl)
theorem dX2_visit_75 : decode cX2_visit 75 = .ok (.invokevirtual 255, 3) := dk_182 0 255 (dk_at dksX2_visit_3 9 rfl rfl)
theorem dX2_visit_78 : decode cX2_visit 78 = .ok (.invokeinterface 105 3, 5) := by decide +kernel
theorem dX2_visit_83 : decode cX2_visit 83 = .ok (.checkcast 231, 3) := dk_192 0 231 (dk_at dksX2_visit_3 17 rfl rfl)
theorem dX2_visit_86 : decode cX2_visit 86 = .ok (.astore 4, 2) := dk_58 4 (dk_at dksX2_visit_3 20 rfl rfl)
theorem dX2_visit_88 : decode cX2_visit 88 = .ok (.iinc 1 1, 3) := dk_132 1 1 (dk_at dksX2_visit_4 0 rfl rfl)
theorem dX2_visit_91 : decode cX2_visit 91 = .ok (.goto (-89), 3) := dk_167 255 167 (dk_at dksX2_visit_4 3 rfl rfl)
theorem dX2_visit_94 : decode cX2_visit 94 = .ok (.return_, 1) := dk_177 (dk_at dksX2_visit_4 6 rfl rfl)
abbrev cX2_sit : ByteArray := prog_6_method_30_code
def yX2_sit : MethodName := ⟨RX2, "sit", "()V"⟩
def dkwX2_sit_3 : List UInt8 := [180, 0, 181, 16, 28, 160, 0, 8, 42, 28, 182, 1, 7, 132, 2, 1, 167, 255, 182, 177]
abbrev dktX2_sit_3 : List UInt8 := dkwX2_sit_3 ++ []
def dkwX2_sit_2 : List UInt8 := [180, 0, 181, 4, 96, 182, 0, 184, 182, 0, 188, 42, 180, 0, 12, 28, 185, 0, 93, 2, 0, 192, 0, 109]
abbrev dktX2_sit_2 : List UInt8 := dkwX2_sit_2 ++ dktX2_sit_3
def dkwX2_sit_1 : List UInt8 := [185, 0, 93, 2, 0, 192, 0, 109, 78, 45, 182, 0, 192, 153, 0, 48, 42, 28, 45, 45, 180, 0, 178, 45]
abbrev dktX2_sit_1 : List UInt8 := dkwX2_sit_1 ++ dktX2_sit_2
def dkwX2_sit_0 : List UInt8 := [42, 180, 0, 12, 185, 0, 81, 1, 0, 60, 3, 61, 28, 27, 162, 0, 75, 42, 180, 0, 12, 28]
abbrev dktX2_sit_0 : List UInt8 := dkwX2_sit_0 ++ dktX2_sit_1
theorem dksX2_sit_0 : cX2_sit.data.toList.drop 0 = dktX2_sit_0 := by decide +kernel
theorem dksX2_sit_1 : cX2_sit.data.toList.drop 22 = dktX2_sit_1 := dk_seg dksX2_sit_0 22 rfl rfl
theorem dksX2_sit_2 : cX2_sit.data.toList.drop 46 = dktX2_sit_2 := dk_seg dksX2_sit_1 24 rfl rfl
theorem dksX2_sit_3 : cX2_sit.data.toList.drop 70 = dktX2_sit_3 := dk_seg dksX2_sit_2 24 rfl rfl
theorem dX2_sit_0 : decode cX2_sit 0 = .ok (.aload_n 0, 1) := dk_42 (dk_at dksX2_sit_0 0 rfl rfl)
theorem dX2_sit_1 : decode cX2_sit 1 = .ok (.getfield 12, 3) := dk_180 0 12 (dk_at dksX2_sit_0 1 rfl rfl)
theorem dX2_sit_4 : decode cX2_sit 4 = .ok (.invokeinterface 81 1, 5) := by decide +kernel
theorem dX2_sit_9 : decode cX2_sit 9 = .ok (.istore_n 1, 1) := dk_60 (dk_at dksX2_sit_0 9 rfl rfl)
theorem dX2_sit_10 : decode cX2_sit 10 = .ok (.iconst 0, 1) := dk_3 (dk_at dksX2_sit_0 10 rfl rfl)
theorem dX2_sit_11 : decode cX2_sit 11 = .ok (.istore_n 2, 1) := dk_61 (dk_at dksX2_sit_0 11 rfl rfl)
theorem dX2_sit_12 : decode cX2_sit 12 = .ok (.iload_n 2, 1) := dk_28 (dk_at dksX2_sit_0 12 rfl rfl)
theorem dX2_sit_13 : decode cX2_sit 13 = .ok (.iload_n 1, 1) := dk_27 (dk_at dksX2_sit_0 13 rfl rfl)
theorem dX2_sit_14 : decode cX2_sit 14 = .ok (.if_icmp .ge 75, 3) := dk_162 0 75 (dk_at dksX2_sit_0 14 rfl rfl)
theorem dX2_sit_17 : decode cX2_sit 17 = .ok (.aload_n 0, 1) := dk_42 (dk_at dksX2_sit_0 17 rfl rfl)
theorem dX2_sit_18 : decode cX2_sit 18 = .ok (.getfield 12, 3) := dk_180 0 12 (dk_at dksX2_sit_0 18 rfl rfl)
theorem dX2_sit_21 : decode cX2_sit 21 = .ok (.iload_n 2, 1) := dk_28 (dk_at dksX2_sit_0 21 rfl rfl)
theorem dX2_sit_22 : decode cX2_sit 22 = .ok (.invokeinterface 93 2, 5) := by decide +kernel
theorem dX2_sit_27 : decode cX2_sit 27 = .ok (.checkcast 109, 3) := dk_192 0 109 (dk_at dksX2_sit_1 5 rfl rfl)
theorem dX2_sit_30 : decode cX2_sit 30 = .ok (.astore_n 3, 1) := dk_78 (dk_at dksX2_sit_1 8 rfl rfl)
theorem dX2_sit_31 : decode cX2_sit 31 = .ok (.aload_n 3, 1) := dk_45 (dk_at dksX2_sit_1 9 rfl rfl)
theorem dX2_sit_32 : decode cX2_sit 32 = .ok (.invokevirtual 192, 3) := dk_182 0 192 (dk_at dksX2_sit_1 10 rfl rfl)
theorem dX2_sit_35 : decode cX2_sit 35 = .ok (.ifCond .eq 48, 3) := dk_153 0 48 (dk_at dksX2_sit_1 13 rfl rfl)
theorem dX2_sit_38 : decode cX2_sit 38 = .ok (.aload_n 0, 1) := dk_42 (dk_at dksX2_sit_1 16 rfl rfl)
theorem dX2_sit_39 : decode cX2_sit 39 = .ok (.iload_n 2, 1) := dk_28 (dk_at dksX2_sit_1 17 rfl rfl)
theorem dX2_sit_40 : decode cX2_sit 40 = .ok (.aload_n 3, 1) := dk_45 (dk_at dksX2_sit_1 18 rfl rfl)
theorem dX2_sit_41 : decode cX2_sit 41 = .ok (.aload_n 3, 1) := dk_45 (dk_at dksX2_sit_1 19 rfl rfl)
theorem dX2_sit_42 : decode cX2_sit 42 = .ok (.getfield 178, 3) := dk_180 0 178 (dk_at dksX2_sit_1 20 rfl rfl)
theorem dX2_sit_45 : decode cX2_sit 45 = .ok (.aload_n 3, 1) := dk_45 (dk_at dksX2_sit_1 23 rfl rfl)
theorem dX2_sit_46 : decode cX2_sit 46 = .ok (.getfield 181, 3) := dk_180 0 181 (dk_at dksX2_sit_2 0 rfl rfl)
theorem dX2_sit_49 : decode cX2_sit 49 = .ok (.iconst 1, 1) := dk_4 (dk_at dksX2_sit_2 3 rfl rfl)
theorem dX2_sit_50 : decode cX2_sit 50 = .ok (.iadd, 1) := dk_96 (dk_at dksX2_sit_2 4 rfl rfl)
theorem dX2_sit_51 : decode cX2_sit 51 = .ok (.invokevirtual 184, 3) := dk_182 0 184 (dk_at dksX2_sit_2 5 rfl rfl)
theorem dX2_sit_54 : decode cX2_sit 54 = .ok (.invokevirtual 188, 3) := dk_182 0 188 (dk_at dksX2_sit_2 8 rfl rfl)
theorem dX2_sit_57 : decode cX2_sit 57 = .ok (.aload_n 0, 1) := dk_42 (dk_at dksX2_sit_2 11 rfl rfl)
theorem dX2_sit_58 : decode cX2_sit 58 = .ok (.getfield 12, 3) := dk_180 0 12 (dk_at dksX2_sit_2 12 rfl rfl)
theorem dX2_sit_61 : decode cX2_sit 61 = .ok (.iload_n 2, 1) := dk_28 (dk_at dksX2_sit_2 15 rfl rfl)
theorem dX2_sit_62 : decode cX2_sit 62 = .ok (.invokeinterface 93 2, 5) := by decide +kernel
theorem dX2_sit_67 : decode cX2_sit 67 = .ok (.checkcast 109, 3) := dk_192 0 109 (dk_at dksX2_sit_2 21 rfl rfl)
theorem dX2_sit_70 : decode cX2_sit 70 = .ok (.getfield 181, 3) := dk_180 0 181 (dk_at dksX2_sit_3 0 rfl rfl)
theorem dX2_sit_73 : decode cX2_sit 73 = .ok (.bipush 28, 2) := dk_16 28 (dk_at dksX2_sit_3 3 rfl rfl)
theorem dX2_sit_75 : decode cX2_sit 75 = .ok (.if_icmp .ne 8, 3) := dk_160 0 8 (dk_at dksX2_sit_3 5 rfl rfl)
theorem dX2_sit_78 : decode cX2_sit 78 = .ok (.aload_n 0, 1) := dk_42 (dk_at dksX2_sit_3 8 rfl rfl)
theorem dX2_sit_79 : decode cX2_sit 79 = .ok (.iload_n 2, 1) := dk_28 (dk_at dksX2_sit_3 9 rfl rfl)
theorem dX2_sit_80 : decode cX2_sit 80 = .ok (.invokevirtual 263, 3) := dk_182 1 7 (dk_at dksX2_sit_3 10 rfl rfl)
theorem dX2_sit_83 : decode cX2_sit 83 = .ok (.iinc 2 1, 3) := dk_132 2 1 (dk_at dksX2_sit_3 13 rfl rfl)
theorem dX2_sit_86 : decode cX2_sit 86 = .ok (.goto (-74), 3) := dk_167 255 182 (dk_at dksX2_sit_3 16 rfl rfl)
theorem dX2_sit_89 : decode cX2_sit 89 = .ok (.return_, 1) := dk_177 (dk_at dksX2_sit_3 19 rfl rfl)
abbrev cX2_hatch : ByteArray := prog_6_method_29_code
def yX2_hatch : MethodName := ⟨RX2, "hatch", "(I)V"⟩
def dkwX2_hatch_3 : List UInt8 := [4, 96, 181, 0, 72, 132, 3, 1, 167, 255, 194, 42, 27, 44, 3, 3, 182, 0, 184, 182, 0, 188, 177]
abbrev dktX2_hatch_3 : List UInt8 := dkwX2_hatch_3 ++ []
def dkwX2_hatch_2 : List UInt8 := [185, 0, 81, 1, 0, 44, 180, 0, 195, 27, 184, 1, 3, 185, 0, 101, 2, 0, 87, 42, 89, 180, 0, 72]
abbrev dktX2_hatch_2 : List UInt8 := dkwX2_hatch_2 ++ dktX2_hatch_3
def dkwX2_hatch_1 : List UInt8 := [42, 180, 0, 12, 185, 0, 81, 1, 0, 16, 12, 162, 0, 46, 42, 180, 0, 12, 42, 180, 0, 12]
abbrev dktX2_hatch_1 : List UInt8 := dkwX2_hatch_1 ++ dktX2_hatch_2
def dkwX2_hatch_0 : List UInt8 := [42, 180, 0, 12, 27, 185, 0, 93, 2, 0, 192, 0, 109, 77, 3, 62, 29, 44, 180, 0, 178, 162, 0, 60]
abbrev dktX2_hatch_0 : List UInt8 := dkwX2_hatch_0 ++ dktX2_hatch_1
theorem dksX2_hatch_0 : cX2_hatch.data.toList.drop 0 = dktX2_hatch_0 := by decide +kernel
theorem dksX2_hatch_1 : cX2_hatch.data.toList.drop 24 = dktX2_hatch_1 := dk_seg dksX2_hatch_0 24 rfl rfl
theorem dksX2_hatch_2 : cX2_hatch.data.toList.drop 46 = dktX2_hatch_2 := dk_seg dksX2_hatch_1 22 rfl rfl
theorem dksX2_hatch_3 : cX2_hatch.data.toList.drop 70 = dktX2_hatch_3 := dk_seg dksX2_hatch_2 24 rfl rfl
theorem dX2_hatch_0 : decode cX2_hatch 0 = .ok (.aload_n 0, 1) := dk_42 (dk_at dksX2_hatch_0 0 rfl rfl)
theorem dX2_hatch_1 : decode cX2_hatch 1 = .ok (.getfield 12, 3) := dk_180 0 12 (dk_at dksX2_hatch_0 1 rfl rfl)
theorem dX2_hatch_4 : decode cX2_hatch 4 = .ok (.iload_n 1, 1) := dk_27 (dk_at dksX2_hatch_0 4 rfl rfl)
theorem dX2_hatch_5 : decode cX2_hatch 5 = .ok (.invokeinterface 93 2, 5) := by decide +kernel
theorem dX2_hatch_10 : decode cX2_hatch 10 = .ok (.checkcast 109, 3) := dk_192 0 109 (dk_at dksX2_hatch_0 10 rfl rfl)
theorem dX2_hatch_13 : decode cX2_hatch 13 = .ok (.astore_n 2, 1) := dk_77 (dk_at dksX2_hatch_0 13 rfl rfl)
theorem dX2_hatch_14 : decode cX2_hatch 14 = .ok (.iconst 0, 1) := dk_3 (dk_at dksX2_hatch_0 14 rfl rfl)
theorem dX2_hatch_15 : decode cX2_hatch 15 = .ok (.istore_n 3, 1) := dk_62 (dk_at dksX2_hatch_0 15 rfl rfl)
theorem dX2_hatch_16 : decode cX2_hatch 16 = .ok (.iload_n 3, 1) := dk_29 (dk_at dksX2_hatch_0 16 rfl rfl)
theorem dX2_hatch_17 : decode cX2_hatch 17 = .ok (.aload_n 2, 1) := dk_44 (dk_at dksX2_hatch_0 17 rfl rfl)
theorem dX2_hatch_18 : decode cX2_hatch 18 = .ok (.getfield 178, 3) := dk_180 0 178 (dk_at dksX2_hatch_0 18 rfl rfl)
theorem dX2_hatch_21 : decode cX2_hatch 21 = .ok (.if_icmp .ge 60, 3) := dk_162 0 60 (dk_at dksX2_hatch_0 21 rfl rfl)
theorem dX2_hatch_24 : decode cX2_hatch 24 = .ok (.aload_n 0, 1) := dk_42 (dk_at dksX2_hatch_1 0 rfl rfl)
theorem dX2_hatch_25 : decode cX2_hatch 25 = .ok (.getfield 12, 3) := dk_180 0 12 (dk_at dksX2_hatch_1 1 rfl rfl)
theorem dX2_hatch_28 : decode cX2_hatch 28 = .ok (.invokeinterface 81 1, 5) := by decide +kernel
theorem dX2_hatch_33 : decode cX2_hatch 33 = .ok (.bipush 12, 2) := dk_16 12 (dk_at dksX2_hatch_1 9 rfl rfl)
theorem dX2_hatch_35 : decode cX2_hatch 35 = .ok (.if_icmp .ge 46, 3) := dk_162 0 46 (dk_at dksX2_hatch_1 11 rfl rfl)
theorem dX2_hatch_38 : decode cX2_hatch 38 = .ok (.aload_n 0, 1) := dk_42 (dk_at dksX2_hatch_1 14 rfl rfl)
theorem dX2_hatch_39 : decode cX2_hatch 39 = .ok (.getfield 12, 3) := dk_180 0 12 (dk_at dksX2_hatch_1 15 rfl rfl)
theorem dX2_hatch_42 : decode cX2_hatch 42 = .ok (.aload_n 0, 1) := dk_42 (dk_at dksX2_hatch_1 18 rfl rfl)
theorem dX2_hatch_43 : decode cX2_hatch 43 = .ok (.getfield 12, 3) := dk_180 0 12 (dk_at dksX2_hatch_1 19 rfl rfl)
theorem dX2_hatch_46 : decode cX2_hatch 46 = .ok (.invokeinterface 81 1, 5) := by decide +kernel
theorem dX2_hatch_51 : decode cX2_hatch 51 = .ok (.aload_n 2, 1) := dk_44 (dk_at dksX2_hatch_2 5 rfl rfl)
theorem dX2_hatch_52 : decode cX2_hatch 52 = .ok (.getfield 195, 3) := dk_180 0 195 (dk_at dksX2_hatch_2 6 rfl rfl)
theorem dX2_hatch_55 : decode cX2_hatch 55 = .ok (.iload_n 1, 1) := dk_27 (dk_at dksX2_hatch_2 9 rfl rfl)
theorem dX2_hatch_56 : decode cX2_hatch 56 = .ok (.invokestatic 259, 3) := dk_184 1 3 (dk_at dksX2_hatch_2 10 rfl rfl)
theorem dX2_hatch_59 : decode cX2_hatch 59 = .ok (.invokeinterface 101 2, 5) := by decide +kernel
theorem dX2_hatch_64 : decode cX2_hatch 64 = .ok (.pop, 1) := dk_87 (dk_at dksX2_hatch_2 18 rfl rfl)
theorem dX2_hatch_65 : decode cX2_hatch 65 = .ok (.aload_n 0, 1) := dk_42 (dk_at dksX2_hatch_2 19 rfl rfl)
theorem dX2_hatch_66 : decode cX2_hatch 66 = .ok (.dup, 1) := dk_89 (dk_at dksX2_hatch_2 20 rfl rfl)
theorem dX2_hatch_67 : decode cX2_hatch 67 = .ok (.getfield 72, 3) := dk_180 0 72 (dk_at dksX2_hatch_2 21 rfl rfl)
theorem dX2_hatch_70 : decode cX2_hatch 70 = .ok (.iconst 1, 1) := dk_4 (dk_at dksX2_hatch_3 0 rfl rfl)
theorem dX2_hatch_71 : decode cX2_hatch 71 = .ok (.iadd, 1) := dk_96 (dk_at dksX2_hatch_3 1 rfl rfl)
theorem dX2_hatch_72 : decode cX2_hatch 72 = .ok (.putfield 72, 3) := dk_181 0 72 (dk_at dksX2_hatch_3 2 rfl rfl)
theorem dX2_hatch_75 : decode cX2_hatch 75 = .ok (.iinc 3 1, 3) := dk_132 3 1 (dk_at dksX2_hatch_3 5 rfl rfl)
theorem dX2_hatch_78 : decode cX2_hatch 78 = .ok (.goto (-62), 3) := dk_167 255 194 (dk_at dksX2_hatch_3 8 rfl rfl)
theorem dX2_hatch_81 : decode cX2_hatch 81 = .ok (.aload_n 0, 1) := dk_42 (dk_at dksX2_hatch_3 11 rfl rfl)
theorem dX2_hatch_82 : decode cX2_hatch 82 = .ok (.iload_n 1, 1) := dk_27 (dk_at dksX2_hatch_3 12 rfl rfl)
theorem dX2_hatch_83 : decode cX2_hatch 83 = .ok (.aload_n 2, 1) := dk_44 (dk_at dksX2_hatch_3 13 rfl rfl)
theorem dX2_hatch_84 : decode cX2_hatch 84 = .ok (.iconst 0, 1) := dk_3 (dk_at dksX2_hatch_3 14 rfl rfl)
theorem dX2_hatch_85 : decode cX2_hatch 85 = .ok (.iconst 0, 1) := dk_3 (dk_at dksX2_hatch_3 15 rfl rfl)
theorem dX2_hatch_86 : decode cX2_hatch 86 = .ok (.invokevirtual 184, 3) := dk_182 0 184 (dk_at dksX2_hatch_3 16 rfl rfl)
theorem dX2_hatch_89 : decode cX2_hatch 89 = .ok (.invokevirtual 188, 3) := dk_182 0 188 (dk_at dksX2_hatch_3 19 rfl rfl)
theorem dX2_hatch_92 : decode cX2_hatch 92 = .ok (.return_, 1) := dk_177 (dk_at dksX2_hatch_3 22 rfl rfl)
abbrev cX2_hunt : ByteArray := prog_6_method_31_code
def yX2_hunt : MethodName := ⟨RX2, "hunt", "()V"⟩
def dkwX2_hunt_4 : List UInt8 := [180, 0, 37, 16, 9, 182, 0, 197, 181, 0, 37, 177]
abbrev dktX2_hunt_4 : List UInt8 := dkwX2_hunt_4 ++ []
def dkwX2_hunt_3 : List UInt8 := [182, 0, 188, 42, 89, 180, 0, 75, 4, 96, 181, 0, 75, 4, 60, 132, 2, 1, 167, 255, 173, 42, 42, 42]
abbrev dktX2_hunt_3 : List UInt8 := dkwX2_hunt_3 ++ dktX2_hunt_4
def dkwX2_hunt_2 : List UInt8 := [42, 180, 0, 37, 160, 0, 34, 42, 28, 45, 45, 180, 0, 178, 4, 100, 45, 180, 0, 181, 182, 0, 184]
abbrev dktX2_hunt_2 : List UInt8 := dkwX2_hunt_2 ++ dktX2_hunt_3
def dkwX2_hunt_1 : List UInt8 := [180, 0, 12, 28, 185, 0, 93, 2, 0, 192, 0, 109, 78, 45, 182, 0, 192, 153, 0, 45, 45, 180, 0, 195]
abbrev dktX2_hunt_1 : List UInt8 := dkwX2_hunt_1 ++ dktX2_hunt_2
def dkwX2_hunt_0 : List UInt8 := [3, 60, 3, 61, 28, 42, 180, 0, 12, 185, 0, 81, 1, 0, 162, 0, 76, 27, 154, 0, 72, 42]
abbrev dktX2_hunt_0 : List UInt8 := dkwX2_hunt_0 ++ dktX2_hunt_1
theorem dksX2_hunt_0 : cX2_hunt.data.toList.drop 0 = dktX2_hunt_0 := by decide +kernel
theorem dksX2_hunt_1 : cX2_hunt.data.toList.drop 22 = dktX2_hunt_1 := dk_seg dksX2_hunt_0 22 rfl rfl
theorem dksX2_hunt_2 : cX2_hunt.data.toList.drop 46 = dktX2_hunt_2 := dk_seg dksX2_hunt_1 24 rfl rfl
theorem dksX2_hunt_3 : cX2_hunt.data.toList.drop 69 = dktX2_hunt_3 := dk_seg dksX2_hunt_2 23 rfl rfl
theorem dksX2_hunt_4 : cX2_hunt.data.toList.drop 93 = dktX2_hunt_4 := dk_seg dksX2_hunt_3 24 rfl rfl
theorem dX2_hunt_0 : decode cX2_hunt 0 = .ok (.iconst 0, 1) := dk_3 (dk_at dksX2_hunt_0 0 rfl rfl)
theorem dX2_hunt_1 : decode cX2_hunt 1 = .ok (.istore_n 1, 1) := dk_60 (dk_at dksX2_hunt_0 1 rfl rfl)
theorem dX2_hunt_2 : decode cX2_hunt 2 = .ok (.iconst 0, 1) := dk_3 (dk_at dksX2_hunt_0 2 rfl rfl)
theorem dX2_hunt_3 : decode cX2_hunt 3 = .ok (.istore_n 2, 1) := dk_61 (dk_at dksX2_hunt_0 3 rfl rfl)
theorem dX2_hunt_4 : decode cX2_hunt 4 = .ok (.iload_n 2, 1) := dk_28 (dk_at dksX2_hunt_0 4 rfl rfl)
theorem dX2_hunt_5 : decode cX2_hunt 5 = .ok (.aload_n 0, 1) := dk_42 (dk_at dksX2_hunt_0 5 rfl rfl)
theorem dX2_hunt_6 : decode cX2_hunt 6 = .ok (.getfield 12, 3) := dk_180 0 12 (dk_at dksX2_hunt_0 6 rfl rfl)
theorem dX2_hunt_9 : decode cX2_hunt 9 = .ok (.invokeinterface 81 1, 5) := by decide +kernel
theorem dX2_hunt_14 : decode cX2_hunt 14 = .ok (.if_icmp .ge 76, 3) := dk_162 0 76 (dk_at dksX2_hunt_0 14 rfl rfl)
theorem dX2_hunt_17 : decode cX2_hunt 17 = .ok (.iload_n 1, 1) := dk_27 (dk_at dksX2_hunt_0 17 rfl rfl)
theorem dX2_hunt_18 : decode cX2_hunt 18 = .ok (.ifCond .ne 72, 3) := dk_154 0 72 (dk_at dksX2_hunt_0 18 rfl rfl)
theorem dX2_hunt_21 : decode cX2_hunt 21 = .ok (.aload_n 0, 1) := dk_42 (dk_at dksX2_hunt_0 21 rfl rfl)
theorem dX2_hunt_22 : decode cX2_hunt 22 = .ok (.getfield 12, 3) := dk_180 0 12 (dk_at dksX2_hunt_1 0 rfl rfl)
theorem dX2_hunt_25 : decode cX2_hunt 25 = .ok (.iload_n 2, 1) := dk_28 (dk_at dksX2_hunt_1 3 rfl rfl)
theorem dX2_hunt_26 : decode cX2_hunt 26 = .ok (.invokeinterface 93 2, 5) := by decide +kernel
theorem dX2_hunt_31 : decode cX2_hunt 31 = .ok (.checkcast 109, 3) := dk_192 0 109 (dk_at dksX2_hunt_1 9 rfl rfl)
theorem dX2_hunt_34 : decode cX2_hunt 34 = .ok (.astore_n 3, 1) := dk_78 (dk_at dksX2_hunt_1 12 rfl rfl)
theorem dX2_hunt_35 : decode cX2_hunt 35 = .ok (.aload_n 3, 1) := dk_45 (dk_at dksX2_hunt_1 13 rfl rfl)
theorem dX2_hunt_36 : decode cX2_hunt 36 = .ok (.invokevirtual 192, 3) := dk_182 0 192 (dk_at dksX2_hunt_1 14 rfl rfl)
theorem dX2_hunt_39 : decode cX2_hunt 39 = .ok (.ifCond .eq 45, 3) := dk_153 0 45 (dk_at dksX2_hunt_1 17 rfl rfl)
theorem dX2_hunt_42 : decode cX2_hunt 42 = .ok (.aload_n 3, 1) := dk_45 (dk_at dksX2_hunt_1 20 rfl rfl)
theorem dX2_hunt_43 : decode cX2_hunt 43 = .ok (.getfield 195, 3) := dk_180 0 195 (dk_at dksX2_hunt_1 21 rfl rfl)
theorem dX2_hunt_46 : decode cX2_hunt 46 = .ok (.aload_n 0, 1) := dk_42 (dk_at dksX2_hunt_2 0 rfl rfl)
theorem dX2_hunt_47 : decode cX2_hunt 47 = .ok (.getfield 37, 3) := dk_180 0 37 (dk_at dksX2_hunt_2 1 rfl rfl)
theorem dX2_hunt_50 : decode cX2_hunt 50 = .ok (.if_icmp .ne 34, 3) := dk_160 0 34 (dk_at dksX2_hunt_2 4 rfl rfl)
theorem dX2_hunt_53 : decode cX2_hunt 53 = .ok (.aload_n 0, 1) := dk_42 (dk_at dksX2_hunt_2 7 rfl rfl)
theorem dX2_hunt_54 : decode cX2_hunt 54 = .ok (.iload_n 2, 1) := dk_28 (dk_at dksX2_hunt_2 8 rfl rfl)
theorem dX2_hunt_55 : decode cX2_hunt 55 = .ok (.aload_n 3, 1) := dk_45 (dk_at dksX2_hunt_2 9 rfl rfl)
theorem dX2_hunt_56 : decode cX2_hunt 56 = .ok (.aload_n 3, 1) := dk_45 (dk_at dksX2_hunt_2 10 rfl rfl)
theorem dX2_hunt_57 : decode cX2_hunt 57 = .ok (.getfield 178, 3) := dk_180 0 178 (dk_at dksX2_hunt_2 11 rfl rfl)
theorem dX2_hunt_60 : decode cX2_hunt 60 = .ok (.iconst 1, 1) := dk_4 (dk_at dksX2_hunt_2 14 rfl rfl)
theorem dX2_hunt_61 : decode cX2_hunt 61 = .ok (.isub, 1) := dk_100 (dk_at dksX2_hunt_2 15 rfl rfl)
theorem dX2_hunt_62 : decode cX2_hunt 62 = .ok (.aload_n 3, 1) := dk_45 (dk_at dksX2_hunt_2 16 rfl rfl)
theorem dX2_hunt_63 : decode cX2_hunt 63 = .ok (.getfield 181, 3) := dk_180 0 181 (dk_at dksX2_hunt_2 17 rfl rfl)
theorem dX2_hunt_66 : decode cX2_hunt 66 = .ok (.invokevirtual 184, 3) := dk_182 0 184 (dk_at dksX2_hunt_2 20 rfl rfl)
theorem dX2_hunt_69 : decode cX2_hunt 69 = .ok (.invokevirtual 188, 3) := dk_182 0 188 (dk_at dksX2_hunt_3 0 rfl rfl)
theorem dX2_hunt_72 : decode cX2_hunt 72 = .ok (.aload_n 0, 1) := dk_42 (dk_at dksX2_hunt_3 3 rfl rfl)
theorem dX2_hunt_73 : decode cX2_hunt 73 = .ok (.dup, 1) := dk_89 (dk_at dksX2_hunt_3 4 rfl rfl)
theorem dX2_hunt_74 : decode cX2_hunt 74 = .ok (.getfield 75, 3) := dk_180 0 75 (dk_at dksX2_hunt_3 5 rfl rfl)
theorem dX2_hunt_77 : decode cX2_hunt 77 = .ok (.iconst 1, 1) := dk_4 (dk_at dksX2_hunt_3 8 rfl rfl)
theorem dX2_hunt_78 : decode cX2_hunt 78 = .ok (.iadd, 1) := dk_96 (dk_at dksX2_hunt_3 9 rfl rfl)
theorem dX2_hunt_79 : decode cX2_hunt 79 = .ok (.putfield 75, 3) := dk_181 0 75 (dk_at dksX2_hunt_3 10 rfl rfl)
theorem dX2_hunt_82 : decode cX2_hunt 82 = .ok (.iconst 1, 1) := dk_4 (dk_at dksX2_hunt_3 13 rfl rfl)
theorem dX2_hunt_83 : decode cX2_hunt 83 = .ok (.istore_n 1, 1) := dk_60 (dk_at dksX2_hunt_3 14 rfl rfl)
theorem dX2_hunt_84 : decode cX2_hunt 84 = .ok (.iinc 2 1, 3) := dk_132 2 1 (dk_at dksX2_hunt_3 15 rfl rfl)
theorem dX2_hunt_87 : decode cX2_hunt 87 = .ok (.goto (-83), 3) := dk_167 255 173 (dk_at dksX2_hunt_3 18 rfl rfl)
theorem dX2_hunt_90 : decode cX2_hunt 90 = .ok (.aload_n 0, 1) := dk_42 (dk_at dksX2_hunt_3 21 rfl rfl)
theorem dX2_hunt_91 : decode cX2_hunt 91 = .ok (.aload_n 0, 1) := dk_42 (dk_at dksX2_hunt_3 22 rfl rfl)
theorem dX2_hunt_92 : decode cX2_hunt 92 = .ok (.aload_n 0, 1) := dk_42 (dk_at dksX2_hunt_3 23 rfl rfl)
theorem dX2_hunt_93 : decode cX2_hunt 93 = .ok (.getfield 37, 3) := dk_180 0 37 (dk_at dksX2_hunt_4 0 rfl rfl)
theorem dX2_hunt_96 : decode cX2_hunt 96 = .ok (.bipush 9, 2) := dk_16 9 (dk_at dksX2_hunt_4 3 rfl rfl)
theorem dX2_hunt_98 : decode cX2_hunt 98 = .ok (.invokevirtual 197, 3) := dk_182 0 197 (dk_at dksX2_hunt_4 5 rfl rfl)
theorem dX2_hunt_101 : decode cX2_hunt 101 = .ok (.putfield 37, 3) := dk_181 0 37 (dk_at dksX2_hunt_4 8 rfl rfl)
theorem dX2_hunt_104 : decode cX2_hunt 104 = .ok (.return_, 1) := dk_177 (dk_at dksX2_hunt_4 11 rfl rfl)
theorem q81 : (Jvm.Cond.initialized "PeacockLawns$Garden") ∈ lw_all := lw_g (lw_at lw_m1 2 rfl) rfl
theorem q129 : (Jvm.Cond.instantiable "PeacockLawns$Garden" (15 : Nat)) ∈ lw_all := lw_g (lw_at lw_m1 50 rfl) rfl
theorem q131 : (Jvm.Cond.instanceMethod ({ cls := "PeacockLawns$Garden", name := "<init>", desc := "()V" } : Jvm.MethodName)) ∈ lw_all := lw_g (lw_at lw_m1 52 rfl) rfl
theorem q132 : (Jvm.Cond.code ({ cls := "PeacockLawns$Garden", name := "<init>", desc := "()V" } : Jvm.MethodName) prog_6_method_1_code (1 : Nat) (Option.none : Option Jvm.ClassFile.FieldType)) ∈ lw_all := lw_g (lw_at lw_m1 53 rfl) rfl
theorem q133 : (Jvm.Cond.methodLink "PeacockLawns$Garden" (3 : Nat) ({ cls := "java/lang/Object", name := "<init>", desc := "()V" } : Jvm.MethodName)) ∈ lw_all := lw_g (lw_at lw_m1 54 rfl) rfl
theorem q134 : (Jvm.Cond.classLink "PeacockLawns$Garden" (9 : Nat) "java/util/ArrayList") ∈ lw_all := lw_g (lw_at lw_m1 55 rfl) rfl
theorem q136 : (Jvm.Cond.methodLink "PeacockLawns$Garden" (11 : Nat) ({ cls := "java/util/ArrayList", name := "<init>", desc := "()V" } : Jvm.MethodName)) ∈ lw_all := lw_g (lw_at lw_m1 57 rfl) rfl
theorem q163 : (Jvm.Cond.methodLink "PeacockLawns$Garden" (31 : Nat) ({ cls := "java/util/Arrays", name := "fill", desc := "([II)V" } : Jvm.MethodName)) ∈ lw_all := lw_g (lw_at lw_m1 84 rfl) rfl
theorem q166 : (Jvm.Cond.fieldLink "PeacockLawns$Garden" (12 : Nat) "PeacockLawns$Garden" "birds" "Ljava/util/List;") ∈ lw_all := lw_g (lw_at lw_m1 87 rfl) rfl
theorem q168 : (Jvm.Cond.fieldLink "PeacockLawns$Garden" (18 : Nat) "PeacockLawns$Garden" "keepers" "Ljava/util/List;") ∈ lw_all := lw_g (lw_at lw_m1 89 rfl) rfl
theorem q170 : (Jvm.Cond.fieldLink "PeacockLawns$Garden" (21 : Nat) "PeacockLawns$Garden" "benches" "Ljava/util/List;") ∈ lw_all := lw_g (lw_at lw_m1 91 rfl) rfl
theorem q172 : (Jvm.Cond.fieldLink "PeacockLawns$Garden" (24 : Nat) "PeacockLawns$Garden" "hedges" "[I") ∈ lw_all := lw_g (lw_at lw_m1 93 rfl) rfl
theorem q174 : (Jvm.Cond.fieldLink "PeacockLawns$Garden" (28 : Nat) "PeacockLawns$Garden" "lying" "[I") ∈ lw_all := lw_g (lw_at lw_m1 95 rfl) rfl
theorem q176 : (Jvm.Cond.fieldLink "PeacockLawns$Garden" (57 : Nat) "PeacockLawns$Garden" "day" "I") ∈ lw_all := lw_g (lw_at lw_m1 97 rfl) rfl
theorem q178 : (Jvm.Cond.fieldLink "PeacockLawns$Garden" (37 : Nat) "PeacockLawns$Garden" "fox" "I") ∈ lw_all := lw_g (lw_at lw_m1 99 rfl) rfl
theorem q180 : (Jvm.Cond.fieldLink "PeacockLawns$Garden" (41 : Nat) "PeacockLawns$Garden" "coins" "I") ∈ lw_all := lw_g (lw_at lw_m1 101 rfl) rfl
theorem q182 : (Jvm.Cond.fieldLink "PeacockLawns$Garden" (60 : Nat) "PeacockLawns$Garden" "shed" "I") ∈ lw_all := lw_g (lw_at lw_m1 103 rfl) rfl
theorem q184 : (Jvm.Cond.fieldLink "PeacockLawns$Garden" (63 : Nat) "PeacockLawns$Garden" "store" "I") ∈ lw_all := lw_g (lw_at lw_m1 105 rfl) rfl
theorem q186 : (Jvm.Cond.fieldLink "PeacockLawns$Garden" (66 : Nat) "PeacockLawns$Garden" "taken" "I") ∈ lw_all := lw_g (lw_at lw_m1 107 rfl) rfl
theorem q188 : (Jvm.Cond.fieldLink "PeacockLawns$Garden" (69 : Nat) "PeacockLawns$Garden" "sold" "I") ∈ lw_all := lw_g (lw_at lw_m1 109 rfl) rfl
theorem q190 : (Jvm.Cond.fieldLink "PeacockLawns$Garden" (72 : Nat) "PeacockLawns$Garden" "hatched" "I") ∈ lw_all := lw_g (lw_at lw_m1 111 rfl) rfl
theorem q192 : (Jvm.Cond.fieldLink "PeacockLawns$Garden" (75 : Nat) "PeacockLawns$Garden" "eaten" "I") ∈ lw_all := lw_g (lw_at lw_m1 113 rfl) rfl
theorem q194 : (Jvm.Cond.fieldLink "PeacockLawns$Garden" (78 : Nat) "PeacockLawns$Garden" "fines" "I") ∈ lw_all := lw_g (lw_at lw_m1 115 rfl) rfl
theorem q196 : (Jvm.Cond.laysFinal "PeacockLawns$Garden" "PeacockLawns$Garden" "birds" "Ljava/util/List;") ∈ lw_all := lw_g (lw_at lw_m1 117 rfl) rfl
theorem q197 : (Jvm.Cond.soleField "PeacockLawns$Garden" "birds") ∈ lw_all := lw_g (lw_at lw_m1 118 rfl) rfl
theorem q198 : (Jvm.Cond.laysFinal "PeacockLawns$Garden" "PeacockLawns$Garden" "keepers" "Ljava/util/List;") ∈ lw_all := lw_g (lw_at lw_m1 119 rfl) rfl
theorem q199 : (Jvm.Cond.soleField "PeacockLawns$Garden" "keepers") ∈ lw_all := lw_g (lw_at lw_m1 120 rfl) rfl
theorem q200 : (Jvm.Cond.laysFinal "PeacockLawns$Garden" "PeacockLawns$Garden" "benches" "Ljava/util/List;") ∈ lw_all := lw_g (lw_at lw_m1 121 rfl) rfl
theorem q201 : (Jvm.Cond.soleField "PeacockLawns$Garden" "benches") ∈ lw_all := lw_g (lw_at lw_m1 122 rfl) rfl
theorem q202 : (Jvm.Cond.laysFinal "PeacockLawns$Garden" "PeacockLawns$Garden" "hedges" "[I") ∈ lw_all := lw_g (lw_at lw_m1 123 rfl) rfl
theorem q203 : (Jvm.Cond.soleField "PeacockLawns$Garden" "hedges") ∈ lw_all := lw_g (lw_at lw_m1 124 rfl) rfl
theorem q204 : (Jvm.Cond.laysFinal "PeacockLawns$Garden" "PeacockLawns$Garden" "lying" "[I") ∈ lw_all := lw_g (lw_at lw_m1 125 rfl) rfl
theorem q205 : (Jvm.Cond.soleField "PeacockLawns$Garden" "lying") ∈ lw_all := lw_g (lw_at lw_m1 126 rfl) rfl
theorem q206 : (Jvm.Cond.lays "PeacockLawns$Garden" "PeacockLawns$Garden" "day" "I") ∈ lw_all := lw_g (lw_at lw_m1 127 rfl) rfl
theorem q207 : (Jvm.Cond.soleField "PeacockLawns$Garden" "day") ∈ lw_all := lw_g (lw_at lw_m1 128 rfl) rfl
theorem q208 : (Jvm.Cond.lays "PeacockLawns$Garden" "PeacockLawns$Garden" "fox" "I") ∈ lw_all := lw_g (lw_at lw_m1 129 rfl) rfl
theorem q209 : (Jvm.Cond.soleField "PeacockLawns$Garden" "fox") ∈ lw_all := lw_g (lw_at lw_m1 130 rfl) rfl
theorem q210 : (Jvm.Cond.lays "PeacockLawns$Garden" "PeacockLawns$Garden" "coins" "I") ∈ lw_all := lw_g (lw_at lw_m1 131 rfl) rfl
theorem q211 : (Jvm.Cond.soleField "PeacockLawns$Garden" "coins") ∈ lw_all := lw_g (lw_at lw_m1 132 rfl) rfl
theorem q212 : (Jvm.Cond.lays "PeacockLawns$Garden" "PeacockLawns$Garden" "shed" "I") ∈ lw_all := lw_g (lw_at lw_m1 133 rfl) rfl
theorem q213 : (Jvm.Cond.soleField "PeacockLawns$Garden" "shed") ∈ lw_all := lw_g (lw_at lw_m1 134 rfl) rfl
theorem q214 : (Jvm.Cond.lays "PeacockLawns$Garden" "PeacockLawns$Garden" "store" "I") ∈ lw_all := lw_g (lw_at lw_m1 135 rfl) rfl
theorem q215 : (Jvm.Cond.soleField "PeacockLawns$Garden" "store") ∈ lw_all := lw_g (lw_at lw_m1 136 rfl) rfl
theorem q216 : (Jvm.Cond.lays "PeacockLawns$Garden" "PeacockLawns$Garden" "taken" "I") ∈ lw_all := lw_g (lw_at lw_m1 137 rfl) rfl
theorem q217 : (Jvm.Cond.soleField "PeacockLawns$Garden" "taken") ∈ lw_all := lw_g (lw_at lw_m1 138 rfl) rfl
theorem q218 : (Jvm.Cond.lays "PeacockLawns$Garden" "PeacockLawns$Garden" "sold" "I") ∈ lw_all := lw_g (lw_at lw_m1 139 rfl) rfl
theorem q219 : (Jvm.Cond.soleField "PeacockLawns$Garden" "sold") ∈ lw_all := lw_g (lw_at lw_m1 140 rfl) rfl
theorem q220 : (Jvm.Cond.lays "PeacockLawns$Garden" "PeacockLawns$Garden" "hatched" "I") ∈ lw_all := lw_g (lw_at lw_m1 141 rfl) rfl
theorem q221 : (Jvm.Cond.soleField "PeacockLawns$Garden" "hatched") ∈ lw_all := lw_g (lw_at lw_m1 142 rfl) rfl
theorem q222 : (Jvm.Cond.lays "PeacockLawns$Garden" "PeacockLawns$Garden" "eaten" "I") ∈ lw_all := lw_g (lw_at lw_m1 143 rfl) rfl
theorem q223 : (Jvm.Cond.soleField "PeacockLawns$Garden" "eaten") ∈ lw_all := lw_g (lw_at lw_m1 144 rfl) rfl
theorem q224 : (Jvm.Cond.lays "PeacockLawns$Garden" "PeacockLawns$Garden" "fines" "I") ∈ lw_all := lw_g (lw_at lw_m1 145 rfl) rfl
theorem q225 : (Jvm.Cond.soleField "PeacockLawns$Garden" "fines") ∈ lw_all := lw_g (lw_at lw_m1 146 rfl) rfl
theorem q226 : (Jvm.Cond.superclass "PeacockLawns$Garden" "java/lang/Object") ∈ lw_all := lw_g (lw_at lw_m1 147 rfl) rfl
theorem q312 : (Jvm.Cond.instanceMethod ({ cls := "PeacockLawns$Garden", name := "noise", desc := "()I" } : Jvm.MethodName)) ∈ lw_all := lw_g (lw_at lw_m1 233 rfl) rfl
theorem q313 : (Jvm.Cond.selects "PeacockLawns$Garden" ({ cls := "PeacockLawns$Garden", name := "noise", desc := "()I" } : Jvm.MethodName) ({ cls := "PeacockLawns$Garden", name := "noise", desc := "()I" } : Jvm.MethodName)) ∈ lw_all := lw_g (lw_at lw_m1 234 rfl) rfl
theorem q314 : (Jvm.Cond.code ({ cls := "PeacockLawns$Garden", name := "noise", desc := "()I" } : Jvm.MethodName) prog_6_method_19_code (1 : Nat) (Option.some Jvm.ClassFile.FieldType.int)) ∈ lw_all := lw_g (lw_at lw_m1 235 rfl) rfl
theorem q315 : (Jvm.Cond.static ({ cls := "PeacockLawns$Garden", name := "lambda$noise$0", desc := "(LPeacockLawns$Bird;)I" } : Jvm.MethodName)) ∈ lw_all := lw_g (lw_at lw_m1 236 rfl) rfl
theorem q316 : (Jvm.Cond.code ({ cls := "PeacockLawns$Garden", name := "lambda$noise$0", desc := "(LPeacockLawns$Bird;)I" } : Jvm.MethodName) prog_6_method_34_code (1 : Nat) (Option.some Jvm.ClassFile.FieldType.int)) ∈ lw_all := lw_g (lw_at lw_m1 237 rfl) rfl
theorem q317 : (Jvm.Cond.methodLink "PeacockLawns$Garden" (243 : Nat) ({ cls := "PeacockLawns$Bird", name := "isCock", desc := "()Z" } : Jvm.MethodName)) ∈ lw_all := lw_g (lw_at lw_m1 238 rfl) rfl
theorem q321 : (Jvm.Cond.methodLink "PeacockLawns$Garden" (203 : Nat) ({ cls := "PeacockLawns$Garden", name := "sumOf", desc := "(LPeacockLawns$Part;)I" } : Jvm.MethodName)) ∈ lw_all := lw_g (lw_at lw_m2 2 rfl) rfl
theorem q322 : (Jvm.Cond.instanceMethod ({ cls := "PeacockLawns$Garden", name := "sumOf", desc := "(LPeacockLawns$Part;)I" } : Jvm.MethodName)) ∈ lw_all := lw_g (lw_at lw_m2 3 rfl) rfl
theorem q323 : (Jvm.Cond.selects "PeacockLawns$Garden" ({ cls := "PeacockLawns$Garden", name := "sumOf", desc := "(LPeacockLawns$Part;)I" } : Jvm.MethodName) ({ cls := "PeacockLawns$Garden", name := "sumOf", desc := "(LPeacockLawns$Part;)I" } : Jvm.MethodName)) ∈ lw_all := lw_g (lw_at lw_m2 4 rfl) rfl
theorem q324 : (Jvm.Cond.code ({ cls := "PeacockLawns$Garden", name := "sumOf", desc := "(LPeacockLawns$Part;)I" } : Jvm.MethodName) prog_6_method_13_code (5 : Nat) (Option.some Jvm.ClassFile.FieldType.int)) ∈ lw_all := lw_g (lw_at lw_m2 5 rfl) rfl
theorem q325 : (Jvm.Cond.interfaceEntry "PeacockLawns$Garden" (127 : Nat)) ∈ lw_tbl := lw_at lw_m2 6 rfl
theorem q326 : (Jvm.Cond.methodLink "PeacockLawns$Garden" (127 : Nat) ({ cls := "java/util/List", name := "iterator", desc := "()Ljava/util/Iterator;" } : Jvm.MethodName)) ∈ lw_all := lw_g (lw_at lw_m2 7 rfl) rfl
theorem q354 : (Jvm.Cond.interfaceEntry "PeacockLawns$Garden" (131 : Nat)) ∈ lw_tbl := lw_at lw_m2 35 rfl
theorem q355 : (Jvm.Cond.methodLink "PeacockLawns$Garden" (131 : Nat) ({ cls := "java/util/Iterator", name := "hasNext", desc := "()Z" } : Jvm.MethodName)) ∈ lw_all := lw_g (lw_at lw_m2 36 rfl) rfl
theorem q364 : (Jvm.Cond.interfaceEntry "PeacockLawns$Garden" (137 : Nat)) ∈ lw_tbl := lw_at lw_m2 45 rfl
theorem q365 : (Jvm.Cond.methodLink "PeacockLawns$Garden" (137 : Nat) ({ cls := "java/util/Iterator", name := "next", desc := "()Ljava/lang/Object;" } : Jvm.MethodName)) ∈ lw_all := lw_g (lw_at lw_m2 46 rfl) rfl
theorem q448 : (Jvm.Cond.classLink "PeacockLawns$Garden" (109 : Nat) "PeacockLawns$Bird") ∈ lw_all := lw_g (lw_at lw_m2 129 rfl) rfl
theorem q449 : (Jvm.Cond.interfaceEntry "PeacockLawns$Garden" (147 : Nat)) ∈ lw_tbl := lw_at lw_m2 130 rfl
theorem q450 : (Jvm.Cond.methodLink "PeacockLawns$Garden" (147 : Nat) ({ cls := "PeacockLawns$Part", name := "of", desc := "(LPeacockLawns$Bird;)I" } : Jvm.MethodName)) ∈ lw_all := lw_g (lw_at lw_m2 131 rfl) rfl
theorem q474 : (Jvm.Cond.instanceMethod ({ cls := "PeacockLawns$Garden", name := "<init>", desc := "(LPeacockLawns$Garden;)V" } : Jvm.MethodName)) ∈ lw_all := lw_g (lw_at lw_m2 155 rfl) rfl
theorem q475 : (Jvm.Cond.code ({ cls := "PeacockLawns$Garden", name := "<init>", desc := "(LPeacockLawns$Garden;)V" } : Jvm.MethodName) prog_6_method_2_code (2 : Nat) (Option.none : Option Jvm.ClassFile.FieldType)) ∈ lw_all := lw_g (lw_at lw_m2 156 rfl) rfl
theorem q476 : (Jvm.Cond.methodLink "PeacockLawns$Garden" (44 : Nat) ({ cls := "PeacockLawns$Garden", name := "<init>", desc := "()V" } : Jvm.MethodName)) ∈ lw_all := lw_g (lw_at lw_m2 157 rfl) rfl
theorem q477 : (Jvm.Cond.interfaceEntry "PeacockLawns$Garden" (45 : Nat)) ∈ lw_tbl := lw_at lw_m2 158 rfl
theorem q478 : (Jvm.Cond.methodLink "PeacockLawns$Garden" (45 : Nat) ({ cls := "java/util/List", name := "addAll", desc := "(Ljava/util/Collection;)Z" } : Jvm.MethodName)) ∈ lw_all := lw_g (lw_at lw_m2 159 rfl) rfl
theorem q756 : (Jvm.Cond.selects "PeacockLawns$Garden" ({ cls := "java/lang/Object", name := "getClass", desc := "()Ljava/lang/Class;" } : Jvm.MethodName) ({ cls := "java/lang/Object", name := "getClass", desc := "()Ljava/lang/Class;" } : Jvm.MethodName)) ∈ lw_all := lw_g (lw_at lw_m3 197 rfl) rfl
theorem q789 : (Jvm.Cond.methodLink "PeacockLawns$Garden" (51 : Nat) ({ cls := "java/lang/System", name := "arraycopy", desc := "(Ljava/lang/Object;ILjava/lang/Object;II)V" } : Jvm.MethodName)) ∈ lw_all := lw_g (lw_at lw_m3 230 rfl) rfl
theorem q830 : (Jvm.Cond.instanceMethod ({ cls := "PeacockLawns$Garden", name := "addCock", desc := "(III)I" } : Jvm.MethodName)) ∈ lw_all := lw_g (lw_at lw_m4 31 rfl) rfl
theorem q831 : (Jvm.Cond.selects "PeacockLawns$Garden" ({ cls := "PeacockLawns$Garden", name := "addCock", desc := "(III)I" } : Jvm.MethodName) ({ cls := "PeacockLawns$Garden", name := "addCock", desc := "(III)I" } : Jvm.MethodName)) ∈ lw_all := lw_g (lw_at lw_m4 32 rfl) rfl
theorem q832 : (Jvm.Cond.code ({ cls := "PeacockLawns$Garden", name := "addCock", desc := "(III)I" } : Jvm.MethodName) prog_6_method_15_code (5 : Nat) (Option.some Jvm.ClassFile.FieldType.int)) ∈ lw_all := lw_g (lw_at lw_m4 33 rfl) rfl
theorem q833 : (Jvm.Cond.methodLink "PeacockLawns$Garden" (156 : Nat) ({ cls := "PeacockLawns$Garden", name := "lawn", desc := "(I)I" } : Jvm.MethodName)) ∈ lw_all := lw_g (lw_at lw_m4 34 rfl) rfl
theorem q834 : (Jvm.Cond.static ({ cls := "PeacockLawns$Garden", name := "lawn", desc := "(I)I" } : Jvm.MethodName)) ∈ lw_all := lw_g (lw_at lw_m4 35 rfl) rfl
theorem q835 : (Jvm.Cond.code ({ cls := "PeacockLawns$Garden", name := "lawn", desc := "(I)I" } : Jvm.MethodName) prog_6_method_5_code (1 : Nat) (Option.some Jvm.ClassFile.FieldType.int)) ∈ lw_all := lw_g (lw_at lw_m4 36 rfl) rfl
theorem q836 : (Jvm.Cond.methodLinkNest "PeacockLawns$Garden" (85 : Nat) ({ cls := "PeacockLawns", name := "inRange", desc := "(III)Z" } : Jvm.MethodName) "PeacockLawns") ∈ lw_tbl := lw_at lw_m4 37 rfl
theorem q839 : (Jvm.Cond.methodLinkNest "PeacockLawns$Garden" (89 : Nat) ({ cls := "PeacockLawns", name := "requireIndex", desc := "(Z)V" } : Jvm.MethodName) "PeacockLawns") ∈ lw_tbl := lw_at lw_m4 40 rfl
theorem q857 : (Jvm.Cond.methodLinkNest "PeacockLawns$Garden" (160 : Nat) ({ cls := "PeacockLawns", name := "require", desc := "(Z)V" } : Jvm.MethodName) "PeacockLawns") ∈ lw_tbl := lw_at lw_m4 58 rfl
theorem q866 : (Jvm.Cond.methodLink "PeacockLawns$Garden" (163 : Nat) ({ cls := "PeacockLawns$Bird", name := "<init>", desc := "(ZIII)V" } : Jvm.MethodName)) ∈ lw_all := lw_g (lw_at lw_m4 67 rfl) rfl
theorem q875 : (Jvm.Cond.fieldLinkNest "PeacockLawns$Garden" (174 : Nat) "PeacockLawns$Bird" "isHen" "Z" "PeacockLawns") ∈ lw_tbl := lw_at lw_m4 76 rfl
theorem q878 : (Jvm.Cond.fieldLinkNest "PeacockLawns$Garden" (195 : Nat) "PeacockLawns$Bird" "lawn" "I" "PeacockLawns") ∈ lw_tbl := lw_at lw_m4 79 rfl
theorem q881 : (Jvm.Cond.fieldLinkNest "PeacockLawns$Garden" (178 : Nat) "PeacockLawns$Bird" "much" "I" "PeacockLawns") ∈ lw_tbl := lw_at lw_m4 82 rfl
theorem q884 : (Jvm.Cond.fieldLinkNest "PeacockLawns$Garden" (181 : Nat) "PeacockLawns$Bird" "voice" "I" "PeacockLawns") ∈ lw_tbl := lw_at lw_m4 85 rfl
theorem q903 : (Jvm.Cond.methodLink "PeacockLawns$Garden" (166 : Nat) ({ cls := "PeacockLawns$Garden", name := "buy", desc := "(LPeacockLawns$Bird;I)I" } : Jvm.MethodName)) ∈ lw_all := lw_g (lw_at lw_m4 104 rfl) rfl
theorem q904 : (Jvm.Cond.privateMethod ({ cls := "PeacockLawns$Garden", name := "buy", desc := "(LPeacockLawns$Bird;I)I" } : Jvm.MethodName)) ∈ lw_tbl := lw_at lw_m4 105 rfl
theorem q905 : (Jvm.Cond.instanceMethod ({ cls := "PeacockLawns$Garden", name := "buy", desc := "(LPeacockLawns$Bird;I)I" } : Jvm.MethodName)) ∈ lw_all := lw_g (lw_at lw_m4 106 rfl) rfl
theorem q906 : (Jvm.Cond.code ({ cls := "PeacockLawns$Garden", name := "buy", desc := "(LPeacockLawns$Bird;I)I" } : Jvm.MethodName) prog_6_method_14_code (3 : Nat) (Option.some Jvm.ClassFile.FieldType.int)) ∈ lw_all := lw_g (lw_at lw_m4 107 rfl) rfl
theorem q907 : (Jvm.Cond.interfaceEntry "PeacockLawns$Garden" (81 : Nat)) ∈ lw_tbl := lw_at lw_m4 108 rfl
theorem q908 : (Jvm.Cond.methodLink "PeacockLawns$Garden" (81 : Nat) ({ cls := "java/util/List", name := "size", desc := "()I" } : Jvm.MethodName)) ∈ lw_all := lw_g (lw_at lw_m4 109 rfl) rfl
theorem q909 : (Jvm.Cond.methodLinkNest "PeacockLawns$Garden" (97 : Nat) ({ cls := "PeacockLawns", name := "allow", desc := "(ZII)V" } : Jvm.MethodName) "PeacockLawns") ∈ lw_tbl := lw_at lw_m4 110 rfl
theorem q943 : (Jvm.Cond.methodLink "PeacockLawns$Garden" (153 : Nat) ({ cls := "PeacockLawns$Garden", name := "add", desc := "(Ljava/util/List;Ljava/lang/Object;I)I" } : Jvm.MethodName)) ∈ lw_all := lw_g (lw_at lw_m4 144 rfl) rfl
theorem q944 : (Jvm.Cond.static ({ cls := "PeacockLawns$Garden", name := "add", desc := "(Ljava/util/List;Ljava/lang/Object;I)I" } : Jvm.MethodName)) ∈ lw_all := lw_g (lw_at lw_m4 145 rfl) rfl
theorem q945 : (Jvm.Cond.code ({ cls := "PeacockLawns$Garden", name := "add", desc := "(Ljava/util/List;Ljava/lang/Object;I)I" } : Jvm.MethodName) prog_6_method_4_code (3 : Nat) (Option.some Jvm.ClassFile.FieldType.int)) ∈ lw_all := lw_g (lw_at lw_m4 146 rfl) rfl
theorem q946 : (Jvm.Cond.interfaceEntry "PeacockLawns$Garden" (101 : Nat)) ∈ lw_tbl := lw_at lw_m4 147 rfl
theorem q947 : (Jvm.Cond.methodLink "PeacockLawns$Garden" (101 : Nat) ({ cls := "java/util/List", name := "add", desc := "(Ljava/lang/Object;)Z" } : Jvm.MethodName)) ∈ lw_all := lw_g (lw_at lw_m4 148 rfl) rfl
theorem q1062 : (Jvm.Cond.instanceMethod ({ cls := "PeacockLawns$Garden", name := "addHen", desc := "(I)I" } : Jvm.MethodName)) ∈ lw_all := lw_g (lw_at lw_m5 23 rfl) rfl
theorem q1063 : (Jvm.Cond.selects "PeacockLawns$Garden" ({ cls := "PeacockLawns$Garden", name := "addHen", desc := "(I)I" } : Jvm.MethodName) ({ cls := "PeacockLawns$Garden", name := "addHen", desc := "(I)I" } : Jvm.MethodName)) ∈ lw_all := lw_g (lw_at lw_m5 24 rfl) rfl
theorem q1064 : (Jvm.Cond.code ({ cls := "PeacockLawns$Garden", name := "addHen", desc := "(I)I" } : Jvm.MethodName) prog_6_method_16_code (2 : Nat) (Option.some Jvm.ClassFile.FieldType.int)) ∈ lw_all := lw_g (lw_at lw_m5 25 rfl) rfl
theorem q1075 : (Jvm.Cond.instanceMethod ({ cls := "PeacockLawns$Garden", name := "lay", desc := "(I)I" } : Jvm.MethodName)) ∈ lw_all := lw_g (lw_at lw_m5 36 rfl) rfl
theorem q1076 : (Jvm.Cond.selects "PeacockLawns$Garden" ({ cls := "PeacockLawns$Garden", name := "lay", desc := "(I)I" } : Jvm.MethodName) ({ cls := "PeacockLawns$Garden", name := "lay", desc := "(I)I" } : Jvm.MethodName)) ∈ lw_all := lw_g (lw_at lw_m5 37 rfl) rfl
theorem q1077 : (Jvm.Cond.code ({ cls := "PeacockLawns$Garden", name := "lay", desc := "(I)I" } : Jvm.MethodName) prog_6_method_17_code (3 : Nat) (Option.some Jvm.ClassFile.FieldType.int)) ∈ lw_all := lw_g (lw_at lw_m5 38 rfl) rfl
theorem q1078 : (Jvm.Cond.methodLink "PeacockLawns$Garden" (170 : Nat) ({ cls := "PeacockLawns$Garden", name := "at", desc := "(Ljava/util/List;I)Ljava/lang/Object;" } : Jvm.MethodName)) ∈ lw_all := lw_g (lw_at lw_m5 39 rfl) rfl
theorem q1079 : (Jvm.Cond.static ({ cls := "PeacockLawns$Garden", name := "at", desc := "(Ljava/util/List;I)Ljava/lang/Object;" } : Jvm.MethodName)) ∈ lw_all := lw_g (lw_at lw_m5 40 rfl) rfl
theorem q1080 : (Jvm.Cond.code ({ cls := "PeacockLawns$Garden", name := "at", desc := "(Ljava/util/List;I)Ljava/lang/Object;" } : Jvm.MethodName) prog_6_method_3_code (2 : Nat) (Option.some (Jvm.ClassFile.FieldType.object "java/lang/Object"))) ∈ lw_all := lw_g (lw_at lw_m5 41 rfl) rfl
theorem q1081 : (Jvm.Cond.interfaceEntry "PeacockLawns$Garden" (93 : Nat)) ∈ lw_tbl := lw_at lw_m5 42 rfl
theorem q1082 : (Jvm.Cond.methodLink "PeacockLawns$Garden" (93 : Nat) ({ cls := "java/util/List", name := "get", desc := "(I)Ljava/lang/Object;" } : Jvm.MethodName)) ∈ lw_all := lw_g (lw_at lw_m5 43 rfl) rfl
theorem q1100 : (Jvm.Cond.methodLink "PeacockLawns$Garden" (184 : Nat) ({ cls := "PeacockLawns$Bird", name := "with", desc := "(II)LPeacockLawns$Bird;" } : Jvm.MethodName)) ∈ lw_all := lw_g (lw_at lw_m5 61 rfl) rfl
theorem q1105 : (Jvm.Cond.methodLink "PeacockLawns$Garden" (188 : Nat) ({ cls := "PeacockLawns$Garden", name := "put", desc := "(ILPeacockLawns$Bird;)V" } : Jvm.MethodName)) ∈ lw_all := lw_g (lw_at lw_m5 66 rfl) rfl
theorem q1106 : (Jvm.Cond.privateMethod ({ cls := "PeacockLawns$Garden", name := "put", desc := "(ILPeacockLawns$Bird;)V" } : Jvm.MethodName)) ∈ lw_tbl := lw_at lw_m5 67 rfl
theorem q1107 : (Jvm.Cond.instanceMethod ({ cls := "PeacockLawns$Garden", name := "put", desc := "(ILPeacockLawns$Bird;)V" } : Jvm.MethodName)) ∈ lw_all := lw_g (lw_at lw_m5 68 rfl) rfl
theorem q1108 : (Jvm.Cond.code ({ cls := "PeacockLawns$Garden", name := "put", desc := "(ILPeacockLawns$Bird;)V" } : Jvm.MethodName) prog_6_method_7_code (4 : Nat) (Option.none : Option Jvm.ClassFile.FieldType)) ∈ lw_all := lw_g (lw_at lw_m5 69 rfl) rfl
theorem q1109 : (Jvm.Cond.interfaceEntry "PeacockLawns$Garden" (105 : Nat)) ∈ lw_tbl := lw_at lw_m5 70 rfl
theorem q1110 : (Jvm.Cond.methodLink "PeacockLawns$Garden" (105 : Nat) ({ cls := "java/util/List", name := "set", desc := "(ILjava/lang/Object;)Ljava/lang/Object;" } : Jvm.MethodName)) ∈ lw_all := lw_g (lw_at lw_m5 71 rfl) rfl
theorem q1172 : (Jvm.Cond.instanceMethod ({ cls := "PeacockLawns$Garden", name := "goesTo", desc := "(LPeacockLawns$Bird;)I" } : Jvm.MethodName)) ∈ lw_all := lw_g (lw_at lw_m5 133 rfl) rfl
theorem q1173 : (Jvm.Cond.selects "PeacockLawns$Garden" ({ cls := "PeacockLawns$Garden", name := "goesTo", desc := "(LPeacockLawns$Bird;)I" } : Jvm.MethodName) ({ cls := "PeacockLawns$Garden", name := "goesTo", desc := "(LPeacockLawns$Bird;)I" } : Jvm.MethodName)) ∈ lw_all := lw_g (lw_at lw_m5 134 rfl) rfl
theorem q1174 : (Jvm.Cond.code ({ cls := "PeacockLawns$Garden", name := "goesTo", desc := "(LPeacockLawns$Bird;)I" } : Jvm.MethodName) prog_6_method_18_code (2 : Nat) (Option.some Jvm.ClassFile.FieldType.int)) ∈ lw_all := lw_g (lw_at lw_m5 135 rfl) rfl
theorem q1175 : (Jvm.Cond.methodLink "PeacockLawns$Garden" (192 : Nat) ({ cls := "PeacockLawns$Bird", name := "isSitting", desc := "()Z" } : Jvm.MethodName)) ∈ lw_all := lw_g (lw_at lw_m5 136 rfl) rfl
theorem q1179 : (Jvm.Cond.methodLink "PeacockLawns$Garden" (197 : Nat) ({ cls := "PeacockLawns$Garden", name := "way", desc := "(II)I" } : Jvm.MethodName)) ∈ lw_all := lw_g (lw_at lw_m5 140 rfl) rfl
theorem q1180 : (Jvm.Cond.instanceMethod ({ cls := "PeacockLawns$Garden", name := "way", desc := "(II)I" } : Jvm.MethodName)) ∈ lw_all := lw_g (lw_at lw_m5 141 rfl) rfl
theorem q1181 : (Jvm.Cond.selects "PeacockLawns$Garden" ({ cls := "PeacockLawns$Garden", name := "way", desc := "(II)I" } : Jvm.MethodName) ({ cls := "PeacockLawns$Garden", name := "way", desc := "(II)I" } : Jvm.MethodName)) ∈ lw_all := lw_g (lw_at lw_m5 142 rfl) rfl
theorem q1182 : (Jvm.Cond.code ({ cls := "PeacockLawns$Garden", name := "way", desc := "(II)I" } : Jvm.MethodName) prog_6_method_9_code (7 : Nat) (Option.some Jvm.ClassFile.FieldType.int)) ∈ lw_all := lw_g (lw_at lw_m5 143 rfl) rfl
theorem q1183 : (Jvm.Cond.methodLink "PeacockLawns$Garden" (120 : Nat) ({ cls := "PeacockLawns$Garden", name := "between", desc := "(II)I" } : Jvm.MethodName)) ∈ lw_all := lw_g (lw_at lw_m5 144 rfl) rfl
theorem q1184 : (Jvm.Cond.static ({ cls := "PeacockLawns$Garden", name := "between", desc := "(II)I" } : Jvm.MethodName)) ∈ lw_all := lw_g (lw_at lw_m5 145 rfl) rfl
theorem q1185 : (Jvm.Cond.code ({ cls := "PeacockLawns$Garden", name := "between", desc := "(II)I" } : Jvm.MethodName) prog_6_method_8_code (6 : Nat) (Option.some Jvm.ClassFile.FieldType.int)) ∈ lw_all := lw_g (lw_at lw_m5 146 rfl) rfl
theorem q1186 : (Jvm.Cond.methodLink "PeacockLawns$Garden" (111 : Nat) ({ cls := "java/lang/Math", name := "min", desc := "(II)I" } : Jvm.MethodName)) ∈ lw_all := lw_g (lw_at lw_m5 147 rfl) rfl
theorem q1187 : (Jvm.Cond.methodLink "PeacockLawns$Garden" (117 : Nat) ({ cls := "java/lang/Math", name := "max", desc := "(II)I" } : Jvm.MethodName)) ∈ lw_all := lw_g (lw_at lw_m5 148 rfl) rfl
theorem q1246 : (Jvm.Cond.instanceMethod ({ cls := "PeacockLawns$Garden", name := "count", desc := "(LPeacockLawns$Kind;)I" } : Jvm.MethodName)) ∈ lw_all := lw_g (lw_at lw_m5 207 rfl) rfl
theorem q1247 : (Jvm.Cond.selects "PeacockLawns$Garden" ({ cls := "PeacockLawns$Garden", name := "count", desc := "(LPeacockLawns$Kind;)I" } : Jvm.MethodName) ({ cls := "PeacockLawns$Garden", name := "count", desc := "(LPeacockLawns$Kind;)I" } : Jvm.MethodName)) ∈ lw_all := lw_g (lw_at lw_m5 208 rfl) rfl
theorem q1248 : (Jvm.Cond.code ({ cls := "PeacockLawns$Garden", name := "count", desc := "(LPeacockLawns$Kind;)I" } : Jvm.MethodName) prog_6_method_12_code (5 : Nat) (Option.some Jvm.ClassFile.FieldType.int)) ∈ lw_all := lw_g (lw_at lw_m5 209 rfl) rfl
theorem q1249 : (Jvm.Cond.interfaceEntry "PeacockLawns$Garden" (141 : Nat)) ∈ lw_tbl := lw_at lw_m5 210 rfl
theorem q1250 : (Jvm.Cond.methodLink "PeacockLawns$Garden" (141 : Nat) ({ cls := "PeacockLawns$Kind", name := "has", desc := "(LPeacockLawns$Bird;)Z" } : Jvm.MethodName)) ∈ lw_all := lw_g (lw_at lw_m5 211 rfl) rfl
theorem q1279 : (Jvm.Cond.instanceMethod ({ cls := "PeacockLawns$Garden", name := "reached", desc := "(III)I" } : Jvm.MethodName)) ∈ lw_all := lw_g (lw_at lw_m6 0 rfl) rfl
theorem q1280 : (Jvm.Cond.selects "PeacockLawns$Garden" ({ cls := "PeacockLawns$Garden", name := "reached", desc := "(III)I" } : Jvm.MethodName) ({ cls := "PeacockLawns$Garden", name := "reached", desc := "(III)I" } : Jvm.MethodName)) ∈ lw_all := lw_g (lw_at lw_m6 1 rfl) rfl
theorem q1281 : (Jvm.Cond.code ({ cls := "PeacockLawns$Garden", name := "reached", desc := "(III)I" } : Jvm.MethodName) prog_6_method_10_code (7 : Nat) (Option.some Jvm.ClassFile.FieldType.int)) ∈ lw_all := lw_g (lw_at lw_m6 2 rfl) rfl
theorem q1282 : (Jvm.Cond.methodLink "PeacockLawns$Garden" (123 : Nat) ({ cls := "PeacockLawns$Garden", name := "reached", desc := "(III)I" } : Jvm.MethodName)) ∈ lw_all := lw_g (lw_at lw_m6 3 rfl) rfl
theorem q1291 : (Jvm.Cond.instanceMethod ({ cls := "PeacockLawns$Garden", name := "reachedAgain", desc := "(II)I" } : Jvm.MethodName)) ∈ lw_all := lw_g (lw_at lw_m6 12 rfl) rfl
theorem q1292 : (Jvm.Cond.selects "PeacockLawns$Garden" ({ cls := "PeacockLawns$Garden", name := "reachedAgain", desc := "(II)I" } : Jvm.MethodName) ({ cls := "PeacockLawns$Garden", name := "reachedAgain", desc := "(II)I" } : Jvm.MethodName)) ∈ lw_all := lw_g (lw_at lw_m6 13 rfl) rfl
theorem q1293 : (Jvm.Cond.code ({ cls := "PeacockLawns$Garden", name := "reachedAgain", desc := "(II)I" } : Jvm.MethodName) prog_6_method_11_code (8 : Nat) (Option.some Jvm.ClassFile.FieldType.int)) ∈ lw_all := lw_g (lw_at lw_m6 14 rfl) rfl
theorem q1319 : (Jvm.Cond.fieldLinkNest "PeacockLawns$Garden" (209 : Nat) "PeacockLawns$Keeper" "lawn" "I" "PeacockLawns") ∈ lw_tbl := lw_at lw_m6 40 rfl
theorem q1322 : (Jvm.Cond.fieldLinkNest "PeacockLawns$Garden" (213 : Nat) "PeacockLawns$Keeper" "hours" "I" "PeacockLawns") ∈ lw_tbl := lw_at lw_m6 43 rfl
theorem q1355 : (Jvm.Cond.instanceMethod ({ cls := "PeacockLawns$Garden", name := "walk", desc := "(II)I" } : Jvm.MethodName)) ∈ lw_all := lw_g (lw_at lw_m6 76 rfl) rfl
theorem q1356 : (Jvm.Cond.selects "PeacockLawns$Garden" ({ cls := "PeacockLawns$Garden", name := "walk", desc := "(II)I" } : Jvm.MethodName) ({ cls := "PeacockLawns$Garden", name := "walk", desc := "(II)I" } : Jvm.MethodName)) ∈ lw_all := lw_g (lw_at lw_m6 77 rfl) rfl
theorem q1357 : (Jvm.Cond.code ({ cls := "PeacockLawns$Garden", name := "walk", desc := "(II)I" } : Jvm.MethodName) prog_6_method_20_code (7 : Nat) (Option.some Jvm.ClassFile.FieldType.int)) ∈ lw_all := lw_g (lw_at lw_m6 78 rfl) rfl
theorem q1358 : (Jvm.Cond.classLink "PeacockLawns$Garden" (207 : Nat) "PeacockLawns$Keeper") ∈ lw_all := lw_g (lw_at lw_m6 79 rfl) rfl
theorem q1359 : (Jvm.Cond.methodLink "PeacockLawns$Garden" (210 : Nat) ({ cls := "java/lang/Math", name := "abs", desc := "(I)I" } : Jvm.MethodName)) ∈ lw_all := lw_g (lw_at lw_m6 80 rfl) rfl
theorem q1362 : (Jvm.Cond.methodLink "PeacockLawns$Garden" (216 : Nat) ({ cls := "PeacockLawns$Keeper", name := "walked", desc := "(II)LPeacockLawns$Keeper;" } : Jvm.MethodName)) ∈ lw_all := lw_g (lw_at lw_m6 83 rfl) rfl
theorem q1377 : (Jvm.Cond.instanceMethod ({ cls := "PeacockLawns$Garden", name := "shear", desc := "(III)I" } : Jvm.MethodName)) ∈ lw_all := lw_g (lw_at lw_m6 98 rfl) rfl
theorem q1378 : (Jvm.Cond.selects "PeacockLawns$Garden" ({ cls := "PeacockLawns$Garden", name := "shear", desc := "(III)I" } : Jvm.MethodName) ({ cls := "PeacockLawns$Garden", name := "shear", desc := "(III)I" } : Jvm.MethodName)) ∈ lw_all := lw_g (lw_at lw_m6 99 rfl) rfl
theorem q1379 : (Jvm.Cond.code ({ cls := "PeacockLawns$Garden", name := "shear", desc := "(III)I" } : Jvm.MethodName) prog_6_method_22_code (8 : Nat) (Option.some Jvm.ClassFile.FieldType.int)) ∈ lw_all := lw_g (lw_at lw_m6 100 rfl) rfl
theorem q1380 : (Jvm.Cond.methodLink "PeacockLawns$Garden" (220 : Nat) ({ cls := "PeacockLawns$Garden", name := "isBeside", desc := "(II)Z" } : Jvm.MethodName)) ∈ lw_all := lw_g (lw_at lw_m6 101 rfl) rfl
theorem q1381 : (Jvm.Cond.static ({ cls := "PeacockLawns$Garden", name := "isBeside", desc := "(II)Z" } : Jvm.MethodName)) ∈ lw_all := lw_g (lw_at lw_m6 102 rfl) rfl
theorem q1382 : (Jvm.Cond.code ({ cls := "PeacockLawns$Garden", name := "isBeside", desc := "(II)Z" } : Jvm.MethodName) prog_6_method_21_code (3 : Nat) (Option.some Jvm.ClassFile.FieldType.boolean)) ∈ lw_all := lw_g (lw_at lw_m6 103 rfl) rfl
theorem q1383 : (Jvm.Cond.methodLink "PeacockLawns$Garden" (224 : Nat) ({ cls := "PeacockLawns$Keeper", name := "sheared", desc := "(II)LPeacockLawns$Keeper;" } : Jvm.MethodName)) ∈ lw_all := lw_g (lw_at lw_m6 104 rfl) rfl
theorem q1397 : (Jvm.Cond.instanceMethod ({ cls := "PeacockLawns$Garden", name := "find", desc := "(I)I" } : Jvm.MethodName)) ∈ lw_all := lw_g (lw_at lw_m6 118 rfl) rfl
theorem q1398 : (Jvm.Cond.selects "PeacockLawns$Garden" ({ cls := "PeacockLawns$Garden", name := "find", desc := "(I)I" } : Jvm.MethodName) ({ cls := "PeacockLawns$Garden", name := "find", desc := "(I)I" } : Jvm.MethodName)) ∈ lw_all := lw_g (lw_at lw_m6 119 rfl) rfl
theorem q1399 : (Jvm.Cond.code ({ cls := "PeacockLawns$Garden", name := "find", desc := "(I)I" } : Jvm.MethodName) prog_6_method_23_code (5 : Nat) (Option.some Jvm.ClassFile.FieldType.int)) ∈ lw_all := lw_g (lw_at lw_m6 120 rfl) rfl
theorem q1400 : (Jvm.Cond.methodLink "PeacockLawns$Garden" (227 : Nat) ({ cls := "PeacockLawns$Keeper", name := "finding", desc := "(I)LPeacockLawns$Keeper;" } : Jvm.MethodName)) ∈ lw_all := lw_g (lw_at lw_m6 121 rfl) rfl
theorem q1414 : (Jvm.Cond.instanceMethod ({ cls := "PeacockLawns$Garden", name := "sell", desc := "(I)I" } : Jvm.MethodName)) ∈ lw_all := lw_g (lw_at lw_m6 135 rfl) rfl
theorem q1415 : (Jvm.Cond.selects "PeacockLawns$Garden" ({ cls := "PeacockLawns$Garden", name := "sell", desc := "(I)I" } : Jvm.MethodName) ({ cls := "PeacockLawns$Garden", name := "sell", desc := "(I)I" } : Jvm.MethodName)) ∈ lw_all := lw_g (lw_at lw_m6 136 rfl) rfl
theorem q1416 : (Jvm.Cond.code ({ cls := "PeacockLawns$Garden", name := "sell", desc := "(I)I" } : Jvm.MethodName) prog_6_method_24_code (3 : Nat) (Option.some Jvm.ClassFile.FieldType.int)) ∈ lw_all := lw_g (lw_at lw_m6 137 rfl) rfl
theorem q1436 : (Jvm.Cond.fieldLinkNest "PeacockLawns$Garden" (254 : Nat) "PeacockLawns$Bench" "lawn" "I" "PeacockLawns") ∈ lw_tbl := lw_at lw_m6 157 rfl
theorem q1438 : (Jvm.Cond.fieldLinkNest "PeacockLawns$Garden" (233 : Nat) "PeacockLawns$Bench" "visitors" "I" "PeacockLawns") ∈ lw_tbl := lw_at lw_m6 159 rfl
theorem q1459 : (Jvm.Cond.instanceMethod ({ cls := "PeacockLawns$Garden", name := "seat", desc := "(II)I" } : Jvm.MethodName)) ∈ lw_all := lw_g (lw_at lw_m6 180 rfl) rfl
theorem q1460 : (Jvm.Cond.selects "PeacockLawns$Garden" ({ cls := "PeacockLawns$Garden", name := "seat", desc := "(II)I" } : Jvm.MethodName) ({ cls := "PeacockLawns$Garden", name := "seat", desc := "(II)I" } : Jvm.MethodName)) ∈ lw_all := lw_g (lw_at lw_m6 181 rfl) rfl
theorem q1461 : (Jvm.Cond.code ({ cls := "PeacockLawns$Garden", name := "seat", desc := "(II)I" } : Jvm.MethodName) prog_6_method_25_code (5 : Nat) (Option.some Jvm.ClassFile.FieldType.int)) ∈ lw_all := lw_g (lw_at lw_m6 182 rfl) rfl
theorem q1462 : (Jvm.Cond.classLink "PeacockLawns$Garden" (231 : Nat) "PeacockLawns$Bench") ∈ lw_all := lw_g (lw_at lw_m6 183 rfl) rfl
theorem q1463 : (Jvm.Cond.methodLink "PeacockLawns$Garden" (236 : Nat) ({ cls := "PeacockLawns$Bench", name := "seating", desc := "(I)LPeacockLawns$Bench;" } : Jvm.MethodName)) ∈ lw_all := lw_g (lw_at lw_m6 184 rfl) rfl
theorem q1485 : (Jvm.Cond.instanceMethod ({ cls := "PeacockLawns$Garden", name := "pass", desc := "(I)I" } : Jvm.MethodName)) ∈ lw_all := lw_g (lw_at lw_m6 206 rfl) rfl
theorem q1486 : (Jvm.Cond.selects "PeacockLawns$Garden" ({ cls := "PeacockLawns$Garden", name := "pass", desc := "(I)I" } : Jvm.MethodName) ({ cls := "PeacockLawns$Garden", name := "pass", desc := "(I)I" } : Jvm.MethodName)) ∈ lw_all := lw_g (lw_at lw_m6 207 rfl) rfl
theorem q1487 : (Jvm.Cond.code ({ cls := "PeacockLawns$Garden", name := "pass", desc := "(I)I" } : Jvm.MethodName) prog_6_method_33_code (4 : Nat) (Option.some Jvm.ClassFile.FieldType.int)) ∈ lw_all := lw_g (lw_at lw_m6 208 rfl) rfl
theorem q1488 : (Jvm.Cond.methodLink "PeacockLawns$Garden" (294 : Nat) ({ cls := "PeacockLawns$Garden", name := "live", desc := "()I" } : Jvm.MethodName)) ∈ lw_all := lw_g (lw_at lw_m6 209 rfl) rfl
theorem q1489 : (Jvm.Cond.instanceMethod ({ cls := "PeacockLawns$Garden", name := "live", desc := "()I" } : Jvm.MethodName)) ∈ lw_all := lw_g (lw_at lw_m6 210 rfl) rfl
theorem q1490 : (Jvm.Cond.selects "PeacockLawns$Garden" ({ cls := "PeacockLawns$Garden", name := "live", desc := "()I" } : Jvm.MethodName) ({ cls := "PeacockLawns$Garden", name := "live", desc := "()I" } : Jvm.MethodName)) ∈ lw_all := lw_g (lw_at lw_m6 211 rfl) rfl
theorem q1491 : (Jvm.Cond.code ({ cls := "PeacockLawns$Garden", name := "live", desc := "()I" } : Jvm.MethodName) prog_6_method_32_code (5 : Nat) (Option.some Jvm.ClassFile.FieldType.int)) ∈ lw_all := lw_g (lw_at lw_m6 212 rfl) rfl
theorem q1492 : (Jvm.Cond.methodLink "PeacockLawns$Garden" (267 : Nat) ({ cls := "PeacockLawns$Garden", name := "grow", desc := "()V" } : Jvm.MethodName)) ∈ lw_all := lw_g (lw_at lw_m6 213 rfl) rfl
theorem q1493 : (Jvm.Cond.privateMethod ({ cls := "PeacockLawns$Garden", name := "grow", desc := "()V" } : Jvm.MethodName)) ∈ lw_tbl := lw_at lw_m6 214 rfl
theorem q1494 : (Jvm.Cond.instanceMethod ({ cls := "PeacockLawns$Garden", name := "grow", desc := "()V" } : Jvm.MethodName)) ∈ lw_all := lw_g (lw_at lw_m6 215 rfl) rfl
theorem q1495 : (Jvm.Cond.code ({ cls := "PeacockLawns$Garden", name := "grow", desc := "()V" } : Jvm.MethodName) prog_6_method_26_code (2 : Nat) (Option.none : Option Jvm.ClassFile.FieldType)) ∈ lw_all := lw_g (lw_at lw_m6 216 rfl) rfl
theorem q1496 : (Jvm.Cond.methodLink "PeacockLawns$Garden" (240 : Nat) ({ cls := "PeacockLawns$Garden", name := "month", desc := "()I" } : Jvm.MethodName)) ∈ lw_all := lw_g (lw_at lw_m6 217 rfl) rfl
theorem q1497 : (Jvm.Cond.instanceMethod ({ cls := "PeacockLawns$Garden", name := "month", desc := "()I" } : Jvm.MethodName)) ∈ lw_all := lw_g (lw_at lw_m6 218 rfl) rfl
theorem q1498 : (Jvm.Cond.selects "PeacockLawns$Garden" ({ cls := "PeacockLawns$Garden", name := "month", desc := "()I" } : Jvm.MethodName) ({ cls := "PeacockLawns$Garden", name := "month", desc := "()I" } : Jvm.MethodName)) ∈ lw_all := lw_g (lw_at lw_m6 219 rfl) rfl
theorem q1499 : (Jvm.Cond.code ({ cls := "PeacockLawns$Garden", name := "month", desc := "()I" } : Jvm.MethodName) prog_6_method_6_code (1 : Nat) (Option.some Jvm.ClassFile.FieldType.int)) ∈ lw_all := lw_g (lw_at lw_m6 220 rfl) rfl
theorem q1500 : (Jvm.Cond.methodLink "PeacockLawns$Garden" (270 : Nat) ({ cls := "PeacockLawns$Garden", name := "moult", desc := "()V" } : Jvm.MethodName)) ∈ lw_all := lw_g (lw_at lw_m6 221 rfl) rfl
theorem q1501 : (Jvm.Cond.privateMethod ({ cls := "PeacockLawns$Garden", name := "moult", desc := "()V" } : Jvm.MethodName)) ∈ lw_tbl := lw_at lw_m6 222 rfl
theorem q1502 : (Jvm.Cond.instanceMethod ({ cls := "PeacockLawns$Garden", name := "moult", desc := "()V" } : Jvm.MethodName)) ∈ lw_all := lw_g (lw_at lw_m6 223 rfl) rfl
theorem q1503 : (Jvm.Cond.code ({ cls := "PeacockLawns$Garden", name := "moult", desc := "()V" } : Jvm.MethodName) prog_6_method_27_code (6 : Nat) (Option.none : Option Jvm.ClassFile.FieldType)) ∈ lw_all := lw_g (lw_at lw_m6 224 rfl) rfl
theorem q1504 : (Jvm.Cond.methodLink "PeacockLawns$Garden" (246 : Nat) ({ cls := "PeacockLawns$Bird", name := "growing", desc := "()LPeacockLawns$Bird;" } : Jvm.MethodName)) ∈ lw_all := lw_g (lw_at lw_m6 225 rfl) rfl
theorem q1509 : (Jvm.Cond.methodLink "PeacockLawns$Garden" (250 : Nat) ({ cls := "PeacockLawns$Bird", name := "shedding", desc := "(I)LPeacockLawns$Bird;" } : Jvm.MethodName)) ∈ lw_all := lw_g (lw_at lw_m6 230 rfl) rfl
theorem q1513 : (Jvm.Cond.methodLink "PeacockLawns$Garden" (273 : Nat) ({ cls := "PeacockLawns$Garden", name := "goesTo", desc := "(LPeacockLawns$Bird;)I" } : Jvm.MethodName)) ∈ lw_all := lw_g (lw_at lw_m6 234 rfl) rfl
theorem q1514 : (Jvm.Cond.methodLink "PeacockLawns$Garden" (276 : Nat) ({ cls := "PeacockLawns$Bird", name := "at", desc := "(I)LPeacockLawns$Bird;" } : Jvm.MethodName)) ∈ lw_all := lw_g (lw_at lw_m6 235 rfl) rfl
theorem q1518 : (Jvm.Cond.methodLink "PeacockLawns$Garden" (278 : Nat) ({ cls := "PeacockLawns$Garden", name := "visit", desc := "()V" } : Jvm.MethodName)) ∈ lw_all := lw_g (lw_at lw_m6 239 rfl) rfl
theorem q1519 : (Jvm.Cond.privateMethod ({ cls := "PeacockLawns$Garden", name := "visit", desc := "()V" } : Jvm.MethodName)) ∈ lw_tbl := lw_at lw_m7 0 rfl
theorem q1520 : (Jvm.Cond.instanceMethod ({ cls := "PeacockLawns$Garden", name := "visit", desc := "()V" } : Jvm.MethodName)) ∈ lw_all := lw_g (lw_at lw_m7 1 rfl) rfl
theorem q1521 : (Jvm.Cond.code ({ cls := "PeacockLawns$Garden", name := "visit", desc := "()V" } : Jvm.MethodName) prog_6_method_28_code (5 : Nat) (Option.none : Option Jvm.ClassFile.FieldType)) ∈ lw_all := lw_g (lw_at lw_m7 2 rfl) rfl
theorem q1522 : (Jvm.Cond.methodLink "PeacockLawns$Garden" (255 : Nat) ({ cls := "PeacockLawns$Bench", name := "emptied", desc := "()LPeacockLawns$Bench;" } : Jvm.MethodName)) ∈ lw_all := lw_g (lw_at lw_m7 3 rfl) rfl
theorem q1526 : (Jvm.Cond.methodLink "PeacockLawns$Garden" (281 : Nat) ({ cls := "PeacockLawns$Garden", name := "sit", desc := "()V" } : Jvm.MethodName)) ∈ lw_all := lw_g (lw_at lw_m7 7 rfl) rfl
theorem q1527 : (Jvm.Cond.privateMethod ({ cls := "PeacockLawns$Garden", name := "sit", desc := "()V" } : Jvm.MethodName)) ∈ lw_tbl := lw_at lw_m7 8 rfl
theorem q1528 : (Jvm.Cond.instanceMethod ({ cls := "PeacockLawns$Garden", name := "sit", desc := "()V" } : Jvm.MethodName)) ∈ lw_all := lw_g (lw_at lw_m7 9 rfl) rfl
theorem q1529 : (Jvm.Cond.code ({ cls := "PeacockLawns$Garden", name := "sit", desc := "()V" } : Jvm.MethodName) prog_6_method_30_code (4 : Nat) (Option.none : Option Jvm.ClassFile.FieldType)) ∈ lw_all := lw_g (lw_at lw_m7 10 rfl) rfl
theorem q1530 : (Jvm.Cond.methodLink "PeacockLawns$Garden" (263 : Nat) ({ cls := "PeacockLawns$Garden", name := "hatch", desc := "(I)V" } : Jvm.MethodName)) ∈ lw_all := lw_g (lw_at lw_m7 11 rfl) rfl
theorem q1531 : (Jvm.Cond.privateMethod ({ cls := "PeacockLawns$Garden", name := "hatch", desc := "(I)V" } : Jvm.MethodName)) ∈ lw_tbl := lw_at lw_m7 12 rfl
theorem q1532 : (Jvm.Cond.instanceMethod ({ cls := "PeacockLawns$Garden", name := "hatch", desc := "(I)V" } : Jvm.MethodName)) ∈ lw_all := lw_g (lw_at lw_m7 13 rfl) rfl
theorem q1533 : (Jvm.Cond.code ({ cls := "PeacockLawns$Garden", name := "hatch", desc := "(I)V" } : Jvm.MethodName) prog_6_method_29_code (4 : Nat) (Option.none : Option Jvm.ClassFile.FieldType)) ∈ lw_all := lw_g (lw_at lw_m7 14 rfl) rfl
theorem q1534 : (Jvm.Cond.methodLink "PeacockLawns$Garden" (259 : Nat) ({ cls := "PeacockLawns$Bird", name := "chick", desc := "(III)LPeacockLawns$Bird;" } : Jvm.MethodName)) ∈ lw_all := lw_g (lw_at lw_m7 15 rfl) rfl
theorem q1537 : (Jvm.Cond.methodLink "PeacockLawns$Garden" (284 : Nat) ({ cls := "PeacockLawns$Garden", name := "hunt", desc := "()V" } : Jvm.MethodName)) ∈ lw_all := lw_g (lw_at lw_m7 18 rfl) rfl
theorem q1538 : (Jvm.Cond.privateMethod ({ cls := "PeacockLawns$Garden", name := "hunt", desc := "()V" } : Jvm.MethodName)) ∈ lw_tbl := lw_at lw_m7 19 rfl
theorem q1539 : (Jvm.Cond.instanceMethod ({ cls := "PeacockLawns$Garden", name := "hunt", desc := "()V" } : Jvm.MethodName)) ∈ lw_all := lw_g (lw_at lw_m7 20 rfl) rfl
theorem q1540 : (Jvm.Cond.code ({ cls := "PeacockLawns$Garden", name := "hunt", desc := "()V" } : Jvm.MethodName) prog_6_method_31_code (4 : Nat) (Option.none : Option Jvm.ClassFile.FieldType)) ∈ lw_all := lw_g (lw_at lw_m7 21 rfl) rfl
theorem q1541 : (Jvm.Cond.methodLink "PeacockLawns$Garden" (287 : Nat) ({ cls := "PeacockLawns$Garden", name := "noise", desc := "()I" } : Jvm.MethodName)) ∈ lw_all := lw_g (lw_at lw_m7 22 rfl) rfl
theorem q1542 : (Jvm.Cond.methodLink "PeacockLawns$Garden" (290 : Nat) ({ cls := "PeacockLawns$Keeper", name := "rested", desc := "()LPeacockLawns$Keeper;" } : Jvm.MethodName)) ∈ lw_all := lw_g (lw_at lw_m7 23 rfl) rfl
theorem q2599 : (Jvm.Cond.castable "PeacockLawns$Garden" "java/lang/Object") ∈ lw_tbl := lw_at lw_m11 120 rfl
theorem in_X2 : ∀ w ∈ wsX20, w ∈ lw_all := lw_in wsX20 [196, 198, 200, 202, 204, 206, 208, 210, 212, 214, 216, 218, 220, 222, 224] (by decide +kernel) (by decide +kernel)
