/-! PeacockLawns -/
set_option maxRecDepth 100000
def RX1 : String := "PeacockLawns"
def TX1 : u_T := fun k => match k with
  | 0 => ("PeacockLawns", "garden", "LPeacockLawns$Garden;", false)
  | 1 => ("PeacockLawns", "past", "Ljava/util/ArrayDeque;", true)
  | 2 => ("PeacockLawns", "input", "Ljava/lang/StringBuilder;", true)
  | 3 => ("PeacockLawns", "line", "Ljava/lang/CharSequence;", false)
  | 4 => ("PeacockLawns", "fault", "I", false)
  | 5 => ("PeacockLawns", "latest", "LPeacockLawns$Refusal;", false)
  | _ => ("PeacockLawns", "saved", "LPeacockLawns$Garden;", false)
def tyX1 : Nat → FieldType := fun k => match k with
  | 0 => .object "PeacockLawns$Garden"
  | 1 => .object "java/util/ArrayDeque"
  | 2 => .object "java/lang/StringBuilder"
  | 3 => .object "java/lang/CharSequence"
  | 4 => .int
  | 5 => .object "PeacockLawns$Refusal"
  | _ => .object "PeacockLawns$Garden"
abbrev wsX10 : List Cond := u_ws RX1 TX1 7
theorem nmX1 : ∀ a, a < 7 → ∀ b, b < 7 → a ≠ b → (TX1 a).2.1 ≠ (TX1 b).2.1 := by decide +kernel
theorem tyX1_ok : ∀ k, k < 7 → parseFieldDescriptor (TX1 k).2.2.1 = some (tyX1 k) := by decide +kernel
abbrev cX1_init : ByteArray := prog_1_method_8_code
def yX1_init : MethodName := ⟨RX1, "<init>", "()V"⟩
def dkwX1_init_2 : List UInt8 := [181, 0, 53, 177]
abbrev dktX1_init_2 : List UInt8 := dkwX1_init_2 ++ []
def dkwX1_init_1 : List UInt8 := [181, 0, 36, 42, 187, 0, 40, 89, 183, 0, 42, 181, 0, 43, 42, 18, 47, 181, 0, 49, 42, 2]
abbrev dktX1_init_1 : List UInt8 := dkwX1_init_1 ++ dktX1_init_2
def dkwX1_init_0 : List UInt8 := [42, 183, 0, 21, 42, 187, 0, 24, 89, 183, 0, 26, 181, 0, 27, 42, 187, 0, 33, 89, 183, 0, 35]
abbrev dktX1_init_0 : List UInt8 := dkwX1_init_0 ++ dktX1_init_1
theorem dksX1_init_0 : cX1_init.data.toList.drop 0 = dktX1_init_0 := by decide +kernel
theorem dksX1_init_1 : cX1_init.data.toList.drop 23 = dktX1_init_1 := dk_seg dksX1_init_0 23 rfl rfl
theorem dksX1_init_2 : cX1_init.data.toList.drop 45 = dktX1_init_2 := dk_seg dksX1_init_1 22 rfl rfl
theorem dX1_init_0 : decode cX1_init 0 = .ok (.aload_n 0, 1) := dk_42 (dk_at dksX1_init_0 0 rfl rfl)
theorem dX1_init_1 : decode cX1_init 1 = .ok (.invokespecial 21, 3) := dk_183 0 21 (dk_at dksX1_init_0 1 rfl rfl)
theorem dX1_init_4 : decode cX1_init 4 = .ok (.aload_n 0, 1) := dk_42 (dk_at dksX1_init_0 4 rfl rfl)
theorem dX1_init_5 : decode cX1_init 5 = .ok (.new 24, 3) := dk_187 0 24 (dk_at dksX1_init_0 5 rfl rfl)
theorem dX1_init_8 : decode cX1_init 8 = .ok (.dup, 1) := dk_89 (dk_at dksX1_init_0 8 rfl rfl)
theorem dX1_init_9 : decode cX1_init 9 = .ok (.invokespecial 26, 3) := dk_183 0 26 (dk_at dksX1_init_0 9 rfl rfl)
theorem dX1_init_12 : decode cX1_init 12 = .ok (.putfield 27, 3) := dk_181 0 27 (dk_at dksX1_init_0 12 rfl rfl)
theorem dX1_init_15 : decode cX1_init 15 = .ok (.aload_n 0, 1) := dk_42 (dk_at dksX1_init_0 15 rfl rfl)
theorem dX1_init_16 : decode cX1_init 16 = .ok (.new 33, 3) := dk_187 0 33 (dk_at dksX1_init_0 16 rfl rfl)
theorem dX1_init_19 : decode cX1_init 19 = .ok (.dup, 1) := dk_89 (dk_at dksX1_init_0 19 rfl rfl)
theorem dX1_init_20 : decode cX1_init 20 = .ok (.invokespecial 35, 3) := dk_183 0 35 (dk_at dksX1_init_0 20 rfl rfl)
theorem dX1_init_23 : decode cX1_init 23 = .ok (.putfield 36, 3) := dk_181 0 36 (dk_at dksX1_init_1 0 rfl rfl)
theorem dX1_init_26 : decode cX1_init 26 = .ok (.aload_n 0, 1) := dk_42 (dk_at dksX1_init_1 3 rfl rfl)
theorem dX1_init_27 : decode cX1_init 27 = .ok (.new 40, 3) := dk_187 0 40 (dk_at dksX1_init_1 4 rfl rfl)
theorem dX1_init_30 : decode cX1_init 30 = .ok (.dup, 1) := dk_89 (dk_at dksX1_init_1 7 rfl rfl)
theorem dX1_init_31 : decode cX1_init 31 = .ok (.invokespecial 42, 3) := dk_183 0 42 (dk_at dksX1_init_1 8 rfl rfl)
theorem dX1_init_34 : decode cX1_init 34 = .ok (.putfield 43, 3) := dk_181 0 43 (dk_at dksX1_init_1 11 rfl rfl)
theorem dX1_init_37 : decode cX1_init 37 = .ok (.aload_n 0, 1) := dk_42 (dk_at dksX1_init_1 14 rfl rfl)
theorem dX1_init_38 : decode cX1_init 38 = .ok (.ldc 47, 2) := dk_18 47 (dk_at dksX1_init_1 15 rfl rfl)
theorem dX1_init_40 : decode cX1_init 40 = .ok (.putfield 49, 3) := dk_181 0 49 (dk_at dksX1_init_1 17 rfl rfl)
theorem dX1_init_43 : decode cX1_init 43 = .ok (.aload_n 0, 1) := dk_42 (dk_at dksX1_init_1 20 rfl rfl)
theorem dX1_init_44 : decode cX1_init 44 = .ok (.iconst (-1), 1) := dk_2 (dk_at dksX1_init_1 21 rfl rfl)
theorem dX1_init_45 : decode cX1_init 45 = .ok (.putfield 53, 3) := dk_181 0 53 (dk_at dksX1_init_2 0 rfl rfl)
theorem dX1_init_48 : decode cX1_init 48 = .ok (.return_, 1) := dk_177 (dk_at dksX1_init_2 3 rfl rfl)
abbrev cX1_fox : ByteArray := prog_1_method_19_code
def yX1_fox : MethodName := ⟨RX1, "fox", "()I"⟩
def dkwX1_fox_0 : List UInt8 := [42, 180, 0, 27, 180, 0, 176, 172]
abbrev dktX1_fox_0 : List UInt8 := dkwX1_fox_0 ++ []
theorem dksX1_fox_0 : cX1_fox.data.toList.drop 0 = dktX1_fox_0 := by decide +kernel
theorem dX1_fox_0 : decode cX1_fox 0 = .ok (.aload_n 0, 1) := dk_42 (dk_at dksX1_fox_0 0 rfl rfl)
theorem dX1_fox_1 : decode cX1_fox 1 = .ok (.getfield 27, 3) := dk_180 0 27 (dk_at dksX1_fox_0 1 rfl rfl)
theorem dX1_fox_4 : decode cX1_fox 4 = .ok (.getfield 176, 3) := dk_180 0 176 (dk_at dksX1_fox_0 4 rfl rfl)
theorem dX1_fox_7 : decode cX1_fox 7 = .ok (.ireturn, 1) := dk_172 (dk_at dksX1_fox_0 7 rfl rfl)
abbrev cX1_noise : ByteArray := prog_1_method_37_code
def yX1_noise : MethodName := ⟨RX1, "noise", "()I"⟩
def dkwX1_noise_0 : List UInt8 := [42, 180, 0, 27, 182, 1, 16, 172]
abbrev dktX1_noise_0 : List UInt8 := dkwX1_noise_0 ++ []
theorem dksX1_noise_0 : cX1_noise.data.toList.drop 0 = dktX1_noise_0 := by decide +kernel
theorem dX1_noise_0 : decode cX1_noise 0 = .ok (.aload_n 0, 1) := dk_42 (dk_at dksX1_noise_0 0 rfl rfl)
theorem dX1_noise_1 : decode cX1_noise 1 = .ok (.getfield 27, 3) := dk_180 0 27 (dk_at dksX1_noise_0 1 rfl rfl)
theorem dX1_noise_4 : decode cX1_noise 4 = .ok (.invokevirtual 272, 3) := dk_182 1 16 (dk_at dksX1_noise_0 4 rfl rfl)
theorem dX1_noise_7 : decode cX1_noise 7 = .ok (.ireturn, 1) := dk_172 (dk_at dksX1_noise_0 7 rfl rfl)
abbrev cX1_shedAgain : ByteArray := prog_1_method_42_code
def yX1_shedAgain : MethodName := ⟨RX1, "shedAgain", "()I"⟩
def dkwX1_shedAgain_1 : List UInt8 := [4, 42, 180, 0, 27, 180, 1, 83, 79, 89, 5, 42, 180, 0, 27, 180, 1, 86, 79, 184, 1, 76, 96, 172]
abbrev dktX1_shedAgain_1 : List UInt8 := dkwX1_shedAgain_1 ++ []
def dkwX1_shedAgain_0 : List UInt8 := [42, 180, 0, 27, 180, 0, 182, 184, 1, 76, 6, 188, 10, 89, 3, 42, 180, 0, 27, 180, 1, 80, 79, 89]
abbrev dktX1_shedAgain_0 : List UInt8 := dkwX1_shedAgain_0 ++ dktX1_shedAgain_1
theorem dksX1_shedAgain_0 : cX1_shedAgain.data.toList.drop 0 = dktX1_shedAgain_0 := by decide +kernel
theorem dksX1_shedAgain_1 : cX1_shedAgain.data.toList.drop 24 = dktX1_shedAgain_1 := dk_seg dksX1_shedAgain_0 24 rfl rfl
theorem dX1_shedAgain_0 : decode cX1_shedAgain 0 = .ok (.aload_n 0, 1) := dk_42 (dk_at dksX1_shedAgain_0 0 rfl rfl)
theorem dX1_shedAgain_1 : decode cX1_shedAgain 1 = .ok (.getfield 27, 3) := dk_180 0 27 (dk_at dksX1_shedAgain_0 1 rfl rfl)
theorem dX1_shedAgain_4 : decode cX1_shedAgain 4 = .ok (.getfield 182, 3) := dk_180 0 182 (dk_at dksX1_shedAgain_0 4 rfl rfl)
theorem dX1_shedAgain_7 : decode cX1_shedAgain 7 = .ok (.invokestatic 332, 3) := dk_184 1 76 (dk_at dksX1_shedAgain_0 7 rfl rfl)
theorem dX1_shedAgain_10 : decode cX1_shedAgain 10 = .ok (.iconst 3, 1) := dk_6 (dk_at dksX1_shedAgain_0 10 rfl rfl)
theorem dX1_shedAgain_11 : decode cX1_shedAgain 11 = .ok (.newarray .int, 2) := dk_188_10 (dk_at dksX1_shedAgain_0 11 rfl rfl)
theorem dX1_shedAgain_13 : decode cX1_shedAgain 13 = .ok (.dup, 1) := dk_89 (dk_at dksX1_shedAgain_0 13 rfl rfl)
theorem dX1_shedAgain_14 : decode cX1_shedAgain 14 = .ok (.iconst 0, 1) := dk_3 (dk_at dksX1_shedAgain_0 14 rfl rfl)
theorem dX1_shedAgain_15 : decode cX1_shedAgain 15 = .ok (.aload_n 0, 1) := dk_42 (dk_at dksX1_shedAgain_0 15 rfl rfl)
theorem dX1_shedAgain_16 : decode cX1_shedAgain 16 = .ok (.getfield 27, 3) := dk_180 0 27 (dk_at dksX1_shedAgain_0 16 rfl rfl)
theorem dX1_shedAgain_19 : decode cX1_shedAgain 19 = .ok (.getfield 336, 3) := dk_180 1 80 (dk_at dksX1_shedAgain_0 19 rfl rfl)
theorem dX1_shedAgain_22 : decode cX1_shedAgain 22 = .ok (.iastore, 1) := dk_79 (dk_at dksX1_shedAgain_0 22 rfl rfl)
theorem dX1_shedAgain_23 : decode cX1_shedAgain 23 = .ok (.dup, 1) := dk_89 (dk_at dksX1_shedAgain_0 23 rfl rfl)
theorem dX1_shedAgain_24 : decode cX1_shedAgain 24 = .ok (.iconst 1, 1) := dk_4 (dk_at dksX1_shedAgain_1 0 rfl rfl)
theorem dX1_shedAgain_25 : decode cX1_shedAgain 25 = .ok (.aload_n 0, 1) := dk_42 (dk_at dksX1_shedAgain_1 1 rfl rfl)
theorem dX1_shedAgain_26 : decode cX1_shedAgain 26 = .ok (.getfield 27, 3) := dk_180 0 27 (dk_at dksX1_shedAgain_1 2 rfl rfl)
theorem dX1_shedAgain_29 : decode cX1_shedAgain 29 = .ok (.getfield 339, 3) := dk_180 1 83 (dk_at dksX1_shedAgain_1 5 rfl rfl)
theorem dX1_shedAgain_32 : decode cX1_shedAgain 32 = .ok (.iastore, 1) := dk_79 (dk_at dksX1_shedAgain_1 8 rfl rfl)
theorem dX1_shedAgain_33 : decode cX1_shedAgain 33 = .ok (.dup, 1) := dk_89 (dk_at dksX1_shedAgain_1 9 rfl rfl)
theorem dX1_shedAgain_34 : decode cX1_shedAgain 34 = .ok (.iconst 2, 1) := dk_5 (dk_at dksX1_shedAgain_1 10 rfl rfl)
theorem dX1_shedAgain_35 : decode cX1_shedAgain 35 = .ok (.aload_n 0, 1) := dk_42 (dk_at dksX1_shedAgain_1 11 rfl rfl)
theorem dX1_shedAgain_36 : decode cX1_shedAgain 36 = .ok (.getfield 27, 3) := dk_180 0 27 (dk_at dksX1_shedAgain_1 12 rfl rfl)
theorem dX1_shedAgain_39 : decode cX1_shedAgain 39 = .ok (.getfield 342, 3) := dk_180 1 86 (dk_at dksX1_shedAgain_1 15 rfl rfl)
theorem dX1_shedAgain_42 : decode cX1_shedAgain 42 = .ok (.iastore, 1) := dk_79 (dk_at dksX1_shedAgain_1 18 rfl rfl)
theorem dX1_shedAgain_43 : decode cX1_shedAgain 43 = .ok (.invokestatic 332, 3) := dk_184 1 76 (dk_at dksX1_shedAgain_1 19 rfl rfl)
theorem dX1_shedAgain_46 : decode cX1_shedAgain 46 = .ok (.iadd, 1) := dk_96 (dk_at dksX1_shedAgain_1 22 rfl rfl)
theorem dX1_shedAgain_47 : decode cX1_shedAgain 47 = .ok (.ireturn, 1) := dk_172 (dk_at dksX1_shedAgain_1 23 rfl rfl)
abbrev cX1_sum : ByteArray := prog_1_method_7_code
def yX1_sum : MethodName := ⟨RX1, "sum", "([I)I"⟩
def dkwX1_sum_1 : List UInt8 := [21, 5, 96, 60, 132, 4, 1, 167, 255, 236, 27, 172]
abbrev dktX1_sum_1 : List UInt8 := dkwX1_sum_1 ++ []
def dkwX1_sum_0 : List UInt8 := [3, 60, 42, 77, 44, 190, 62, 3, 54, 4, 21, 4, 29, 162, 0, 20, 44, 21, 4, 46, 54, 5, 27]
abbrev dktX1_sum_0 : List UInt8 := dkwX1_sum_0 ++ dktX1_sum_1
theorem dksX1_sum_0 : cX1_sum.data.toList.drop 0 = dktX1_sum_0 := by decide +kernel
theorem dksX1_sum_1 : cX1_sum.data.toList.drop 23 = dktX1_sum_1 := dk_seg dksX1_sum_0 23 rfl rfl
theorem dX1_sum_0 : decode cX1_sum 0 = .ok (.iconst 0, 1) := dk_3 (dk_at dksX1_sum_0 0 rfl rfl)
theorem dX1_sum_1 : decode cX1_sum 1 = .ok (.istore_n 1, 1) := dk_60 (dk_at dksX1_sum_0 1 rfl rfl)
theorem dX1_sum_2 : decode cX1_sum 2 = .ok (.aload_n 0, 1) := dk_42 (dk_at dksX1_sum_0 2 rfl rfl)
theorem dX1_sum_3 : decode cX1_sum 3 = .ok (.astore_n 2, 1) := dk_77 (dk_at dksX1_sum_0 3 rfl rfl)
theorem dX1_sum_4 : decode cX1_sum 4 = .ok (.aload_n 2, 1) := dk_44 (dk_at dksX1_sum_0 4 rfl rfl)
theorem dX1_sum_5 : decode cX1_sum 5 = .ok (.arraylength, 1) := dk_190 (dk_at dksX1_sum_0 5 rfl rfl)
theorem dX1_sum_6 : decode cX1_sum 6 = .ok (.istore_n 3, 1) := dk_62 (dk_at dksX1_sum_0 6 rfl rfl)
theorem dX1_sum_7 : decode cX1_sum 7 = .ok (.iconst 0, 1) := dk_3 (dk_at dksX1_sum_0 7 rfl rfl)
theorem dX1_sum_8 : decode cX1_sum 8 = .ok (.istore 4, 2) := dk_54 4 (dk_at dksX1_sum_0 8 rfl rfl)
theorem dX1_sum_10 : decode cX1_sum 10 = .ok (.iload 4, 2) := dk_21 4 (dk_at dksX1_sum_0 10 rfl rfl)
theorem dX1_sum_12 : decode cX1_sum 12 = .ok (.iload_n 3, 1) := dk_29 (dk_at dksX1_sum_0 12 rfl rfl)
theorem dX1_sum_13 : decode cX1_sum 13 = .ok (.if_icmp .ge 20, 3) := dk_162 0 20 (dk_at dksX1_sum_0 13 rfl rfl)
theorem dX1_sum_16 : decode cX1_sum 16 = .ok (.aload_n 2, 1) := dk_44 (dk_at dksX1_sum_0 16 rfl rfl)
theorem dX1_sum_17 : decode cX1_sum 17 = .ok (.iload 4, 2) := dk_21 4 (dk_at dksX1_sum_0 17 rfl rfl)
theorem dX1_sum_19 : decode cX1_sum 19 = .ok (.iaload, 1) := dk_46 (dk_at dksX1_sum_0 19 rfl rfl)
theorem dX1_sum_20 : decode cX1_sum 20 = .ok (.istore 5, 2) := dk_54 5 (dk_at dksX1_sum_0 20 rfl rfl)
theorem dX1_sum_22 : decode cX1_sum 22 = .ok (.iload_n 1, 1) := dk_27 (dk_at dksX1_sum_0 22 rfl rfl)
theorem dX1_sum_23 : decode cX1_sum 23 = .ok (.iload 5, 2) := dk_21 5 (dk_at dksX1_sum_1 0 rfl rfl)
theorem dX1_sum_25 : decode cX1_sum 25 = .ok (.iadd, 1) := dk_96 (dk_at dksX1_sum_1 2 rfl rfl)
theorem dX1_sum_26 : decode cX1_sum 26 = .ok (.istore_n 1, 1) := dk_60 (dk_at dksX1_sum_1 3 rfl rfl)
theorem dX1_sum_27 : decode cX1_sum 27 = .ok (.iinc 4 1, 3) := dk_132 4 1 (dk_at dksX1_sum_1 4 rfl rfl)
theorem dX1_sum_30 : decode cX1_sum 30 = .ok (.goto (-20), 3) := dk_167 255 236 (dk_at dksX1_sum_1 7 rfl rfl)
theorem dX1_sum_33 : decode cX1_sum 33 = .ok (.iload_n 1, 1) := dk_27 (dk_at dksX1_sum_1 10 rfl rfl)
theorem dX1_sum_34 : decode cX1_sum 34 = .ok (.ireturn, 1) := dk_172 (dk_at dksX1_sum_1 11 rfl rfl)
abbrev cX1_meanHeight : ByteArray := prog_1_method_43_code
def yX1_meanHeight : MethodName := ⟨RX1, "meanHeight", "()D"⟩
def dkwX1_meanHeight_0 : List UInt8 := [42, 180, 0, 27, 180, 0, 219, 184, 1, 76, 135, 20, 1, 98, 111, 175]
abbrev dktX1_meanHeight_0 : List UInt8 := dkwX1_meanHeight_0 ++ []
theorem dksX1_meanHeight_0 : cX1_meanHeight.data.toList.drop 0 = dktX1_meanHeight_0 := by decide +kernel
theorem dX1_meanHeight_0 : decode cX1_meanHeight 0 = .ok (.aload_n 0, 1) := dk_42 (dk_at dksX1_meanHeight_0 0 rfl rfl)
theorem dX1_meanHeight_1 : decode cX1_meanHeight 1 = .ok (.getfield 27, 3) := dk_180 0 27 (dk_at dksX1_meanHeight_0 1 rfl rfl)
theorem dX1_meanHeight_4 : decode cX1_meanHeight 4 = .ok (.getfield 219, 3) := dk_180 0 219 (dk_at dksX1_meanHeight_0 4 rfl rfl)
theorem dX1_meanHeight_7 : decode cX1_meanHeight 7 = .ok (.invokestatic 332, 3) := dk_184 1 76 (dk_at dksX1_meanHeight_0 7 rfl rfl)
theorem dX1_meanHeight_10 : decode cX1_meanHeight 10 = .ok (.i2d, 1) := dk_135 (dk_at dksX1_meanHeight_0 10 rfl rfl)
theorem dX1_meanHeight_11 : decode cX1_meanHeight 11 = .ok (.ldc2_w 354, 3) := dk_20 1 98 (dk_at dksX1_meanHeight_0 11 rfl rfl)
theorem dX1_meanHeight_14 : decode cX1_meanHeight 14 = .ok (.ddiv, 1) := dk_111 (dk_at dksX1_meanHeight_0 14 rfl rfl)
theorem dX1_meanHeight_15 : decode cX1_meanHeight 15 = .ok (.dreturn, 1) := dk_175 (dk_at dksX1_meanHeight_0 15 rfl rfl)
abbrev cX1_saveSnapshot : ByteArray := prog_1_method_52_code
def yX1_saveSnapshot : MethodName := ⟨RX1, "saveSnapshot", "()I"⟩
def dkwX1_saveSnapshot_0 : List UInt8 := [42, 42, 182, 0, 79, 181, 1, 149, 42, 180, 1, 149, 180, 0, 107, 185, 0, 161, 1, 0, 172]
abbrev dktX1_saveSnapshot_0 : List UInt8 := dkwX1_saveSnapshot_0 ++ []
theorem dksX1_saveSnapshot_0 : cX1_saveSnapshot.data.toList.drop 0 = dktX1_saveSnapshot_0 := by decide +kernel
theorem dX1_saveSnapshot_0 : decode cX1_saveSnapshot 0 = .ok (.aload_n 0, 1) := dk_42 (dk_at dksX1_saveSnapshot_0 0 rfl rfl)
theorem dX1_saveSnapshot_1 : decode cX1_saveSnapshot 1 = .ok (.aload_n 0, 1) := dk_42 (dk_at dksX1_saveSnapshot_0 1 rfl rfl)
theorem dX1_saveSnapshot_2 : decode cX1_saveSnapshot 2 = .ok (.invokevirtual 79, 3) := dk_182 0 79 (dk_at dksX1_saveSnapshot_0 2 rfl rfl)
theorem dX1_saveSnapshot_5 : decode cX1_saveSnapshot 5 = .ok (.putfield 405, 3) := dk_181 1 149 (dk_at dksX1_saveSnapshot_0 5 rfl rfl)
theorem dX1_saveSnapshot_8 : decode cX1_saveSnapshot 8 = .ok (.aload_n 0, 1) := dk_42 (dk_at dksX1_saveSnapshot_0 8 rfl rfl)
theorem dX1_saveSnapshot_9 : decode cX1_saveSnapshot 9 = .ok (.getfield 405, 3) := dk_180 1 149 (dk_at dksX1_saveSnapshot_0 9 rfl rfl)
theorem dX1_saveSnapshot_12 : decode cX1_saveSnapshot 12 = .ok (.getfield 107, 3) := dk_180 0 107 (dk_at dksX1_saveSnapshot_0 12 rfl rfl)
theorem dX1_saveSnapshot_15 : decode cX1_saveSnapshot 15 = .ok (.invokeinterface 161 1, 5) := by decide +kernel
theorem dX1_saveSnapshot_20 : decode cX1_saveSnapshot 20 = .ok (.ireturn, 1) := dk_172 (dk_at dksX1_saveSnapshot_0 20 rfl rfl)
abbrev cX1_draft : ByteArray := prog_1_method_9_code
def yX1_draft : MethodName := ⟨RX1, "draft", "()LPeacockLawns$Garden;"⟩
def dkwX1_draft_0 : List UInt8 := [187, 0, 24, 89, 42, 180, 0, 27, 183, 0, 57, 176]
abbrev dktX1_draft_0 : List UInt8 := dkwX1_draft_0 ++ []
theorem dksX1_draft_0 : cX1_draft.data.toList.drop 0 = dktX1_draft_0 := by decide +kernel
theorem dX1_draft_0 : decode cX1_draft 0 = .ok (.new 24, 3) := dk_187 0 24 (dk_at dksX1_draft_0 0 rfl rfl)
theorem dX1_draft_3 : decode cX1_draft 3 = .ok (.dup, 1) := dk_89 (dk_at dksX1_draft_0 3 rfl rfl)
theorem dX1_draft_4 : decode cX1_draft 4 = .ok (.aload_n 0, 1) := dk_42 (dk_at dksX1_draft_0 4 rfl rfl)
theorem dX1_draft_5 : decode cX1_draft 5 = .ok (.getfield 27, 3) := dk_180 0 27 (dk_at dksX1_draft_0 5 rfl rfl)
theorem dX1_draft_8 : decode cX1_draft 8 = .ok (.invokespecial 57, 3) := dk_183 0 57 (dk_at dksX1_draft_0 8 rfl rfl)
theorem dX1_draft_11 : decode cX1_draft 11 = .ok (.areturn, 1) := dk_176 (dk_at dksX1_draft_0 11 rfl rfl)
abbrev cX1_cock : ByteArray := prog_1_method_13_code
def yX1_cock : MethodName := ⟨RX1, "cock", "(III)I"⟩
def dkwX1_cock_0 : List UInt8 := [42, 27, 28, 29, 186, 0, 96, 0, 0, 182, 0, 99, 172]
abbrev dktX1_cock_0 : List UInt8 := dkwX1_cock_0 ++ []
theorem dksX1_cock_0 : cX1_cock.data.toList.drop 0 = dktX1_cock_0 := by decide +kernel
theorem dX1_cock_0 : decode cX1_cock 0 = .ok (.aload_n 0, 1) := dk_42 (dk_at dksX1_cock_0 0 rfl rfl)
theorem dX1_cock_1 : decode cX1_cock 1 = .ok (.iload_n 1, 1) := dk_27 (dk_at dksX1_cock_0 1 rfl rfl)
theorem dX1_cock_2 : decode cX1_cock 2 = .ok (.iload_n 2, 1) := dk_28 (dk_at dksX1_cock_0 2 rfl rfl)
theorem dX1_cock_3 : decode cX1_cock 3 = .ok (.iload_n 3, 1) := dk_29 (dk_at dksX1_cock_0 3 rfl rfl)
theorem dX1_cock_4 : decode cX1_cock 4 = .ok (.invokedynamic 96, 5) := by decide +kernel
theorem dX1_cock_9 : decode cX1_cock 9 = .ok (.invokevirtual 99, 3) := dk_182 0 99 (dk_at dksX1_cock_0 9 rfl rfl)
theorem dX1_cock_12 : decode cX1_cock 12 = .ok (.ireturn, 1) := dk_172 (dk_at dksX1_cock_0 12 rfl rfl)
abbrev cX1_lambda_cock_0 : ByteArray := prog_1_method_67_code
def yX1_lambda_cock_0 : MethodName := ⟨RX1, "lambda$cock$0", "(IIILPeacockLawns$Garden;)I"⟩
def dkwX1_lambda_cock_0_0 : List UInt8 := [45, 26, 27, 28, 182, 1, 189, 172]
abbrev dktX1_lambda_cock_0_0 : List UInt8 := dkwX1_lambda_cock_0_0 ++ []
theorem dksX1_lambda_cock_0_0 : cX1_lambda_cock_0.data.toList.drop 0 = dktX1_lambda_cock_0_0 := by decide +kernel
theorem dX1_lambda_cock_0_0 : decode cX1_lambda_cock_0 0 = .ok (.aload_n 3, 1) := dk_45 (dk_at dksX1_lambda_cock_0_0 0 rfl rfl)
theorem dX1_lambda_cock_0_1 : decode cX1_lambda_cock_0 1 = .ok (.iload_n 0, 1) := dk_26 (dk_at dksX1_lambda_cock_0_0 1 rfl rfl)
theorem dX1_lambda_cock_0_2 : decode cX1_lambda_cock_0 2 = .ok (.iload_n 1, 1) := dk_27 (dk_at dksX1_lambda_cock_0_0 2 rfl rfl)
theorem dX1_lambda_cock_0_3 : decode cX1_lambda_cock_0 3 = .ok (.iload_n 2, 1) := dk_28 (dk_at dksX1_lambda_cock_0_0 3 rfl rfl)
theorem dX1_lambda_cock_0_4 : decode cX1_lambda_cock_0 4 = .ok (.invokevirtual 445, 3) := dk_182 1 189 (dk_at dksX1_lambda_cock_0_0 4 rfl rfl)
theorem dX1_lambda_cock_0_7 : decode cX1_lambda_cock_0 7 = .ok (.ireturn, 1) := dk_172 (dk_at dksX1_lambda_cock_0_0 7 rfl rfl)
abbrev cX1_inRange : ByteArray := prog_1_method_1_code
def yX1_inRange : MethodName := ⟨RX1, "inRange", "(III)Z"⟩
def dkwX1_inRange_0 : List UInt8 := [26, 27, 161, 0, 12, 26, 28, 163, 0, 7, 4, 167, 0, 4, 3, 172]
abbrev dktX1_inRange_0 : List UInt8 := dkwX1_inRange_0 ++ []
theorem dksX1_inRange_0 : cX1_inRange.data.toList.drop 0 = dktX1_inRange_0 := by decide +kernel
theorem dX1_inRange_0 : decode cX1_inRange 0 = .ok (.iload_n 0, 1) := dk_26 (dk_at dksX1_inRange_0 0 rfl rfl)
theorem dX1_inRange_1 : decode cX1_inRange 1 = .ok (.iload_n 1, 1) := dk_27 (dk_at dksX1_inRange_0 1 rfl rfl)
theorem dX1_inRange_2 : decode cX1_inRange 2 = .ok (.if_icmp .lt 12, 3) := dk_161 0 12 (dk_at dksX1_inRange_0 2 rfl rfl)
theorem dX1_inRange_5 : decode cX1_inRange 5 = .ok (.iload_n 0, 1) := dk_26 (dk_at dksX1_inRange_0 5 rfl rfl)
theorem dX1_inRange_6 : decode cX1_inRange 6 = .ok (.iload_n 2, 1) := dk_28 (dk_at dksX1_inRange_0 6 rfl rfl)
theorem dX1_inRange_7 : decode cX1_inRange 7 = .ok (.if_icmp .gt 7, 3) := dk_163 0 7 (dk_at dksX1_inRange_0 7 rfl rfl)
theorem dX1_inRange_10 : decode cX1_inRange 10 = .ok (.iconst 1, 1) := dk_4 (dk_at dksX1_inRange_0 10 rfl rfl)
theorem dX1_inRange_11 : decode cX1_inRange 11 = .ok (.goto 4, 3) := dk_167 0 4 (dk_at dksX1_inRange_0 11 rfl rfl)
theorem dX1_inRange_14 : decode cX1_inRange 14 = .ok (.iconst 0, 1) := dk_3 (dk_at dksX1_inRange_0 14 rfl rfl)
theorem dX1_inRange_15 : decode cX1_inRange 15 = .ok (.ireturn, 1) := dk_172 (dk_at dksX1_inRange_0 15 rfl rfl)
abbrev cX1_requireIndex : ByteArray := prog_1_method_3_code
def yX1_requireIndex : MethodName := ⟨RX1, "requireIndex", "(Z)V"⟩
def dkwX1_requireIndex_0 : List UInt8 := [26, 154, 0, 11, 187, 0, 7, 89, 183, 0, 9, 191, 177]
abbrev dktX1_requireIndex_0 : List UInt8 := dkwX1_requireIndex_0 ++ []
theorem dksX1_requireIndex_0 : cX1_requireIndex.data.toList.drop 0 = dktX1_requireIndex_0 := by decide +kernel
theorem dX1_requireIndex_0 : decode cX1_requireIndex 0 = .ok (.iload_n 0, 1) := dk_26 (dk_at dksX1_requireIndex_0 0 rfl rfl)
theorem dX1_requireIndex_1 : decode cX1_requireIndex 1 = .ok (.ifCond .ne 11, 3) := dk_154 0 11 (dk_at dksX1_requireIndex_0 1 rfl rfl)
theorem dX1_requireIndex_4 : decode cX1_requireIndex 4 = .ok (.new 7, 3) := dk_187 0 7 (dk_at dksX1_requireIndex_0 4 rfl rfl)
theorem dX1_requireIndex_7 : decode cX1_requireIndex 7 = .ok (.dup, 1) := dk_89 (dk_at dksX1_requireIndex_0 7 rfl rfl)
theorem dX1_requireIndex_8 : decode cX1_requireIndex 8 = .ok (.invokespecial 9, 3) := dk_183 0 9 (dk_at dksX1_requireIndex_0 8 rfl rfl)
theorem dX1_requireIndex_11 : decode cX1_requireIndex 11 = .ok (.athrow, 1) := dk_191 (dk_at dksX1_requireIndex_0 11 rfl rfl)
theorem dX1_requireIndex_12 : decode cX1_requireIndex 12 = .ok (.return_, 1) := dk_177 (dk_at dksX1_requireIndex_0 12 rfl rfl)
abbrev cX1_require : ByteArray := prog_1_method_2_code
def yX1_require : MethodName := ⟨RX1, "require", "(Z)V"⟩
def dkwX1_require_0 : List UInt8 := [26, 154, 0, 11, 187, 0, 1, 89, 183, 0, 3, 191, 177]
abbrev dktX1_require_0 : List UInt8 := dkwX1_require_0 ++ []
theorem dksX1_require_0 : cX1_require.data.toList.drop 0 = dktX1_require_0 := by decide +kernel
theorem dX1_require_0 : decode cX1_require 0 = .ok (.iload_n 0, 1) := dk_26 (dk_at dksX1_require_0 0 rfl rfl)
theorem dX1_require_1 : decode cX1_require 1 = .ok (.ifCond .ne 11, 3) := dk_154 0 11 (dk_at dksX1_require_0 1 rfl rfl)
theorem dX1_require_4 : decode cX1_require 4 = .ok (.new 1, 3) := dk_187 0 1 (dk_at dksX1_require_0 4 rfl rfl)
theorem dX1_require_7 : decode cX1_require 7 = .ok (.dup, 1) := dk_89 (dk_at dksX1_require_0 7 rfl rfl)
theorem dX1_require_8 : decode cX1_require 8 = .ok (.invokespecial 3, 3) := dk_183 0 3 (dk_at dksX1_require_0 8 rfl rfl)
theorem dX1_require_11 : decode cX1_require 11 = .ok (.athrow, 1) := dk_191 (dk_at dksX1_require_0 11 rfl rfl)
theorem dX1_require_12 : decode cX1_require 12 = .ok (.return_, 1) := dk_177 (dk_at dksX1_require_0 12 rfl rfl)
abbrev cX1_allow : ByteArray := prog_1_method_6_code
def yX1_allow : MethodName := ⟨RX1, "allow", "(ZII)V"⟩
def dkwX1_allow_0 : List UInt8 := [26, 154, 0, 13, 187, 0, 16, 89, 27, 28, 183, 0, 18, 191, 177]
abbrev dktX1_allow_0 : List UInt8 := dkwX1_allow_0 ++ []
theorem dksX1_allow_0 : cX1_allow.data.toList.drop 0 = dktX1_allow_0 := by decide +kernel
theorem dX1_allow_0 : decode cX1_allow 0 = .ok (.iload_n 0, 1) := dk_26 (dk_at dksX1_allow_0 0 rfl rfl)
theorem dX1_allow_1 : decode cX1_allow 1 = .ok (.ifCond .ne 13, 3) := dk_154 0 13 (dk_at dksX1_allow_0 1 rfl rfl)
theorem dX1_allow_4 : decode cX1_allow 4 = .ok (.new 16, 3) := dk_187 0 16 (dk_at dksX1_allow_0 4 rfl rfl)
theorem dX1_allow_7 : decode cX1_allow 7 = .ok (.dup, 1) := dk_89 (dk_at dksX1_allow_0 7 rfl rfl)
theorem dX1_allow_8 : decode cX1_allow 8 = .ok (.iload_n 1, 1) := dk_27 (dk_at dksX1_allow_0 8 rfl rfl)
theorem dX1_allow_9 : decode cX1_allow 9 = .ok (.iload_n 2, 1) := dk_28 (dk_at dksX1_allow_0 9 rfl rfl)
theorem dX1_allow_10 : decode cX1_allow 10 = .ok (.invokespecial 18, 3) := dk_183 0 18 (dk_at dksX1_allow_0 10 rfl rfl)
theorem dX1_allow_13 : decode cX1_allow 13 = .ok (.athrow, 1) := dk_191 (dk_at dksX1_allow_0 13 rfl rfl)
theorem dX1_allow_14 : decode cX1_allow 14 = .ok (.return_, 1) := dk_177 (dk_at dksX1_allow_0 14 rfl rfl)
abbrev cX1_change : ByteArray := prog_1_method_12_code
def yX1_change : MethodName := ⟨RX1, "change", "(LPeacockLawns$Deed;)I"⟩
def dkwX1_change_1 : List UInt8 := [182, 0, 92, 191]
abbrev dktX1_change_1 : List UInt8 := dkwX1_change_1 ++ []
def dkwX1_change_0 : List UInt8 := [42, 182, 0, 79, 77, 43, 44, 185, 0, 83, 2, 0, 62, 42, 44, 182, 0, 89, 29, 172, 78, 42, 45]
abbrev dktX1_change_0 : List UInt8 := dkwX1_change_0 ++ dktX1_change_1
theorem dksX1_change_0 : cX1_change.data.toList.drop 0 = dktX1_change_0 := by decide +kernel
theorem dksX1_change_1 : cX1_change.data.toList.drop 23 = dktX1_change_1 := dk_seg dksX1_change_0 23 rfl rfl
theorem dX1_change_0 : decode cX1_change 0 = .ok (.aload_n 0, 1) := dk_42 (dk_at dksX1_change_0 0 rfl rfl)
theorem dX1_change_1 : decode cX1_change 1 = .ok (.invokevirtual 79, 3) := dk_182 0 79 (dk_at dksX1_change_0 1 rfl rfl)
theorem dX1_change_4 : decode cX1_change 4 = .ok (.astore_n 2, 1) := dk_77 (dk_at dksX1_change_0 4 rfl rfl)
theorem dX1_change_5 : decode cX1_change 5 = .ok (.aload_n 1, 1) := dk_43 (dk_at dksX1_change_0 5 rfl rfl)
theorem dX1_change_6 : decode cX1_change 6 = .ok (.aload_n 2, 1) := dk_44 (dk_at dksX1_change_0 6 rfl rfl)
theorem dX1_change_7 : decode cX1_change 7 = .ok (.invokeinterface 83 2, 5) := by decide +kernel
theorem dX1_change_12 : decode cX1_change 12 = .ok (.istore_n 3, 1) := dk_62 (dk_at dksX1_change_0 12 rfl rfl)
theorem dX1_change_13 : decode cX1_change 13 = .ok (.aload_n 0, 1) := dk_42 (dk_at dksX1_change_0 13 rfl rfl)
theorem dX1_change_14 : decode cX1_change 14 = .ok (.aload_n 2, 1) := dk_44 (dk_at dksX1_change_0 14 rfl rfl)
theorem dX1_change_15 : decode cX1_change 15 = .ok (.invokevirtual 89, 3) := dk_182 0 89 (dk_at dksX1_change_0 15 rfl rfl)
theorem dX1_change_18 : decode cX1_change 18 = .ok (.iload_n 3, 1) := dk_29 (dk_at dksX1_change_0 18 rfl rfl)
theorem dX1_change_19 : decode cX1_change 19 = .ok (.ireturn, 1) := dk_172 (dk_at dksX1_change_0 19 rfl rfl)
theorem dX1_change_20 : decode cX1_change 20 = .ok (.astore_n 3, 1) := dk_78 (dk_at dksX1_change_0 20 rfl rfl)
theorem dX1_change_21 : decode cX1_change 21 = .ok (.aload_n 0, 1) := dk_42 (dk_at dksX1_change_0 21 rfl rfl)
theorem dX1_change_22 : decode cX1_change 22 = .ok (.aload_n 3, 1) := dk_45 (dk_at dksX1_change_0 22 rfl rfl)
theorem dX1_change_23 : decode cX1_change 23 = .ok (.invokevirtual 92, 3) := dk_182 0 92 (dk_at dksX1_change_1 0 rfl rfl)
theorem dX1_change_26 : decode cX1_change 26 = .ok (.athrow, 1) := dk_191 (dk_at dksX1_change_1 3 rfl rfl)
abbrev cX1_replace : ByteArray := prog_1_method_10_code
def yX1_replace : MethodName := ⟨RX1, "replace", "(LPeacockLawns$Garden;)V"⟩
def dkwX1_replace_1 : List UInt8 := [180, 0, 36, 42, 180, 0, 27, 182, 0, 68, 42, 43, 181, 0, 27, 177]
abbrev dktX1_replace_1 : List UInt8 := dkwX1_replace_1 ++ []
def dkwX1_replace_0 : List UInt8 := [42, 180, 0, 36, 182, 0, 60, 16, 8, 160, 0, 14, 42, 180, 0, 36, 182, 0, 64, 192, 0, 24, 77, 42]
abbrev dktX1_replace_0 : List UInt8 := dkwX1_replace_0 ++ dktX1_replace_1
theorem dksX1_replace_0 : cX1_replace.data.toList.drop 0 = dktX1_replace_0 := by decide +kernel
theorem dksX1_replace_1 : cX1_replace.data.toList.drop 24 = dktX1_replace_1 := dk_seg dksX1_replace_0 24 rfl rfl
theorem dX1_replace_0 : decode cX1_replace 0 = .ok (.aload_n 0, 1) := dk_42 (dk_at dksX1_replace_0 0 rfl rfl)
theorem dX1_replace_1 : decode cX1_replace 1 = .ok (.getfield 36, 3) := dk_180 0 36 (dk_at dksX1_replace_0 1 rfl rfl)
theorem dX1_replace_4 : decode cX1_replace 4 = .ok (.invokevirtual 60, 3) := dk_182 0 60 (dk_at dksX1_replace_0 4 rfl rfl)
theorem dX1_replace_7 : decode cX1_replace 7 = .ok (.bipush 8, 2) := dk_16 8 (dk_at dksX1_replace_0 7 rfl rfl)
theorem dX1_replace_9 : decode cX1_replace 9 = .ok (.if_icmp .ne 14, 3) := dk_160 0 14 (dk_at dksX1_replace_0 9 rfl rfl)
theorem dX1_replace_12 : decode cX1_replace 12 = .ok (.aload_n 0, 1) := dk_42 (dk_at dksX1_replace_0 12 rfl rfl)
theorem dX1_replace_13 : decode cX1_replace 13 = .ok (.getfield 36, 3) := dk_180 0 36 (dk_at dksX1_replace_0 13 rfl rfl)
theorem dX1_replace_16 : decode cX1_replace 16 = .ok (.invokevirtual 64, 3) := dk_182 0 64 (dk_at dksX1_replace_0 16 rfl rfl)
theorem dX1_replace_19 : decode cX1_replace 19 = .ok (.checkcast 24, 3) := dk_192 0 24 (dk_at dksX1_replace_0 19 rfl rfl)
theorem dX1_replace_22 : decode cX1_replace 22 = .ok (.astore_n 2, 1) := dk_77 (dk_at dksX1_replace_0 22 rfl rfl)
theorem dX1_replace_23 : decode cX1_replace 23 = .ok (.aload_n 0, 1) := dk_42 (dk_at dksX1_replace_0 23 rfl rfl)
theorem dX1_replace_24 : decode cX1_replace 24 = .ok (.getfield 36, 3) := dk_180 0 36 (dk_at dksX1_replace_1 0 rfl rfl)
theorem dX1_replace_27 : decode cX1_replace 27 = .ok (.aload_n 0, 1) := dk_42 (dk_at dksX1_replace_1 3 rfl rfl)
theorem dX1_replace_28 : decode cX1_replace 28 = .ok (.getfield 27, 3) := dk_180 0 27 (dk_at dksX1_replace_1 4 rfl rfl)
theorem dX1_replace_31 : decode cX1_replace 31 = .ok (.invokevirtual 68, 3) := dk_182 0 68 (dk_at dksX1_replace_1 7 rfl rfl)
theorem dX1_replace_34 : decode cX1_replace 34 = .ok (.aload_n 0, 1) := dk_42 (dk_at dksX1_replace_1 10 rfl rfl)
theorem dX1_replace_35 : decode cX1_replace 35 = .ok (.aload_n 1, 1) := dk_43 (dk_at dksX1_replace_1 11 rfl rfl)
theorem dX1_replace_36 : decode cX1_replace 36 = .ok (.putfield 27, 3) := dk_181 0 27 (dk_at dksX1_replace_1 12 rfl rfl)
theorem dX1_replace_39 : decode cX1_replace 39 = .ok (.return_, 1) := dk_177 (dk_at dksX1_replace_1 15 rfl rfl)
abbrev cX1_refuse : ByteArray := prog_1_method_11_code
def yX1_refuse : MethodName := ⟨RX1, "refuse", "(LPeacockLawns$Refusal;)Ljava/lang/UnsupportedOperationException;"⟩
def dkwX1_refuse_0 : List UInt8 := [42, 43, 181, 0, 72, 187, 0, 76, 89, 183, 0, 78, 176]
abbrev dktX1_refuse_0 : List UInt8 := dkwX1_refuse_0 ++ []
theorem dksX1_refuse_0 : cX1_refuse.data.toList.drop 0 = dktX1_refuse_0 := by decide +kernel
theorem dX1_refuse_0 : decode cX1_refuse 0 = .ok (.aload_n 0, 1) := dk_42 (dk_at dksX1_refuse_0 0 rfl rfl)
theorem dX1_refuse_1 : decode cX1_refuse 1 = .ok (.aload_n 1, 1) := dk_43 (dk_at dksX1_refuse_0 1 rfl rfl)
theorem dX1_refuse_2 : decode cX1_refuse 2 = .ok (.putfield 72, 3) := dk_181 0 72 (dk_at dksX1_refuse_0 2 rfl rfl)
theorem dX1_refuse_5 : decode cX1_refuse 5 = .ok (.new 76, 3) := dk_187 0 76 (dk_at dksX1_refuse_0 5 rfl rfl)
theorem dX1_refuse_8 : decode cX1_refuse 8 = .ok (.dup, 1) := dk_89 (dk_at dksX1_refuse_0 8 rfl rfl)
theorem dX1_refuse_9 : decode cX1_refuse 9 = .ok (.invokespecial 78, 3) := dk_183 0 78 (dk_at dksX1_refuse_0 9 rfl rfl)
theorem dX1_refuse_12 : decode cX1_refuse 12 = .ok (.areturn, 1) := dk_176 (dk_at dksX1_refuse_0 12 rfl rfl)
abbrev cX1_hen : ByteArray := prog_1_method_14_code
def yX1_hen : MethodName := ⟨RX1, "hen", "(I)I"⟩
def dkwX1_hen_0 : List UInt8 := [42, 27, 186, 0, 103, 0, 0, 182, 0, 99, 172]
abbrev dktX1_hen_0 : List UInt8 := dkwX1_hen_0 ++ []
theorem dksX1_hen_0 : cX1_hen.data.toList.drop 0 = dktX1_hen_0 := by decide +kernel
theorem dX1_hen_0 : decode cX1_hen 0 = .ok (.aload_n 0, 1) := dk_42 (dk_at dksX1_hen_0 0 rfl rfl)
theorem dX1_hen_1 : decode cX1_hen 1 = .ok (.iload_n 1, 1) := dk_27 (dk_at dksX1_hen_0 1 rfl rfl)
theorem dX1_hen_2 : decode cX1_hen 2 = .ok (.invokedynamic 103, 5) := by decide +kernel
theorem dX1_hen_7 : decode cX1_hen 7 = .ok (.invokevirtual 99, 3) := dk_182 0 99 (dk_at dksX1_hen_0 7 rfl rfl)
theorem dX1_hen_10 : decode cX1_hen 10 = .ok (.ireturn, 1) := dk_172 (dk_at dksX1_hen_0 10 rfl rfl)
abbrev cX1_lambda_hen_1 : ByteArray := prog_1_method_66_code
def yX1_lambda_hen_1 : MethodName := ⟨RX1, "lambda$hen$1", "(ILPeacockLawns$Garden;)I"⟩
def dkwX1_lambda_hen_1_0 : List UInt8 := [43, 26, 182, 1, 186, 172]
abbrev dktX1_lambda_hen_1_0 : List UInt8 := dkwX1_lambda_hen_1_0 ++ []
theorem dksX1_lambda_hen_1_0 : cX1_lambda_hen_1.data.toList.drop 0 = dktX1_lambda_hen_1_0 := by decide +kernel
theorem dX1_lambda_hen_1_0 : decode cX1_lambda_hen_1 0 = .ok (.aload_n 1, 1) := dk_43 (dk_at dksX1_lambda_hen_1_0 0 rfl rfl)
theorem dX1_lambda_hen_1_1 : decode cX1_lambda_hen_1 1 = .ok (.iload_n 0, 1) := dk_26 (dk_at dksX1_lambda_hen_1_0 1 rfl rfl)
theorem dX1_lambda_hen_1_2 : decode cX1_lambda_hen_1 2 = .ok (.invokevirtual 442, 3) := dk_182 1 186 (dk_at dksX1_lambda_hen_1_0 2 rfl rfl)
theorem dX1_lambda_hen_1_5 : decode cX1_lambda_hen_1 5 = .ok (.ireturn, 1) := dk_172 (dk_at dksX1_lambda_hen_1_0 5 rfl rfl)
abbrev cX1_lay : ByteArray := prog_1_method_15_code
def yX1_lay : MethodName := ⟨RX1, "lay", "(I)I"⟩
def dkwX1_lay_0 : List UInt8 := [42, 27, 186, 0, 106, 0, 0, 182, 0, 99, 172]
abbrev dktX1_lay_0 : List UInt8 := dkwX1_lay_0 ++ []
theorem dksX1_lay_0 : cX1_lay.data.toList.drop 0 = dktX1_lay_0 := by decide +kernel
theorem dX1_lay_0 : decode cX1_lay 0 = .ok (.aload_n 0, 1) := dk_42 (dk_at dksX1_lay_0 0 rfl rfl)
theorem dX1_lay_1 : decode cX1_lay 1 = .ok (.iload_n 1, 1) := dk_27 (dk_at dksX1_lay_0 1 rfl rfl)
theorem dX1_lay_2 : decode cX1_lay 2 = .ok (.invokedynamic 106, 5) := by decide +kernel
theorem dX1_lay_7 : decode cX1_lay 7 = .ok (.invokevirtual 99, 3) := dk_182 0 99 (dk_at dksX1_lay_0 7 rfl rfl)
theorem dX1_lay_10 : decode cX1_lay 10 = .ok (.ireturn, 1) := dk_172 (dk_at dksX1_lay_0 10 rfl rfl)
abbrev cX1_lambda_lay_2 : ByteArray := prog_1_method_65_code
def yX1_lambda_lay_2 : MethodName := ⟨RX1, "lambda$lay$2", "(ILPeacockLawns$Garden;)I"⟩
def dkwX1_lambda_lay_2_0 : List UInt8 := [43, 26, 182, 1, 183, 172]
abbrev dktX1_lambda_lay_2_0 : List UInt8 := dkwX1_lambda_lay_2_0 ++ []
theorem dksX1_lambda_lay_2_0 : cX1_lambda_lay_2.data.toList.drop 0 = dktX1_lambda_lay_2_0 := by decide +kernel
theorem dX1_lambda_lay_2_0 : decode cX1_lambda_lay_2 0 = .ok (.aload_n 1, 1) := dk_43 (dk_at dksX1_lambda_lay_2_0 0 rfl rfl)
theorem dX1_lambda_lay_2_1 : decode cX1_lambda_lay_2 1 = .ok (.iload_n 0, 1) := dk_26 (dk_at dksX1_lambda_lay_2_0 1 rfl rfl)
theorem dX1_lambda_lay_2_2 : decode cX1_lambda_lay_2 2 = .ok (.invokevirtual 439, 3) := dk_182 1 183 (dk_at dksX1_lambda_lay_2_0 2 rfl rfl)
theorem dX1_lambda_lay_2_5 : decode cX1_lambda_lay_2 5 = .ok (.ireturn, 1) := dk_172 (dk_at dksX1_lambda_lay_2_0 5 rfl rfl)
abbrev cX1_birdOf : ByteArray := prog_1_method_16_code
def yX1_birdOf : MethodName := ⟨RX1, "birdOf", "(II)I"⟩
def dkwX1_birdOf_5 : List UInt8 := [167, 0, 21, 187, 0, 144, 89, 27, 42, 180, 0, 27, 180, 0, 107, 183, 0, 146, 182, 0, 149, 172]
abbrev dktX1_birdOf_5 : List UInt8 := dkwX1_birdOf_5 ++ []
def dkwX1_birdOf_4 : List UInt8 := [180, 0, 132, 167, 0, 42, 45, 180, 0, 135, 167, 0, 35, 45, 180, 0, 138, 167, 0, 28, 45, 180, 0, 141]
abbrev dktX1_birdOf_4 : List UInt8 := dkwX1_birdOf_4 ++ dktX1_birdOf_5
def dkwX1_birdOf_3 : List UInt8 := [45, 180, 0, 125, 153, 0, 7, 4, 167, 0, 60, 3, 167, 0, 56, 45, 180, 0, 129, 167, 0, 49, 45]
abbrev dktX1_birdOf_3 : List UInt8 := dkwX1_birdOf_3 ++ dktX1_birdOf_4
def dkwX1_birdOf_2 : List UInt8 := [170, 0, 0, 0, 0, 88, 0, 0, 0, 0, 0, 0, 0, 5, 0, 0, 0, 38, 0, 0, 0, 53, 0, 0, 0, 60, 0, 0, 0, 67, 0, 0, 0, 74, 0, 0, 0, 81]
abbrev dktX1_birdOf_2 : List UInt8 := dkwX1_birdOf_2 ++ dktX1_birdOf_3
def dkwX1_birdOf_1 : List UInt8 := [184, 0, 121, 28]
abbrev dktX1_birdOf_1 : List UInt8 := dkwX1_birdOf_1 ++ dktX1_birdOf_2
def dkwX1_birdOf_0 : List UInt8 := [42, 180, 0, 27, 180, 0, 107, 27, 184, 0, 111, 192, 0, 115, 78, 28, 3, 16, 6, 184, 0, 117]
abbrev dktX1_birdOf_0 : List UInt8 := dkwX1_birdOf_0 ++ dktX1_birdOf_1
theorem dksX1_birdOf_0 : cX1_birdOf.data.toList.drop 0 = dktX1_birdOf_0 := by decide +kernel
theorem dksX1_birdOf_1 : cX1_birdOf.data.toList.drop 22 = dktX1_birdOf_1 := dk_seg dksX1_birdOf_0 22 rfl rfl
theorem dksX1_birdOf_2 : cX1_birdOf.data.toList.drop 26 = dktX1_birdOf_2 := dk_seg dksX1_birdOf_1 4 rfl rfl
theorem dksX1_birdOf_3 : cX1_birdOf.data.toList.drop 64 = dktX1_birdOf_3 := dk_seg dksX1_birdOf_2 38 rfl rfl
theorem dksX1_birdOf_4 : cX1_birdOf.data.toList.drop 87 = dktX1_birdOf_4 := dk_seg dksX1_birdOf_3 23 rfl rfl
theorem dksX1_birdOf_5 : cX1_birdOf.data.toList.drop 111 = dktX1_birdOf_5 := dk_seg dksX1_birdOf_4 24 rfl rfl
theorem dX1_birdOf_0 : decode cX1_birdOf 0 = .ok (.aload_n 0, 1) := dk_42 (dk_at dksX1_birdOf_0 0 rfl rfl)
theorem dX1_birdOf_1 : decode cX1_birdOf 1 = .ok (.getfield 27, 3) := dk_180 0 27 (dk_at dksX1_birdOf_0 1 rfl rfl)
theorem dX1_birdOf_4 : decode cX1_birdOf 4 = .ok (.getfield 107, 3) := dk_180 0 107 (dk_at dksX1_birdOf_0 4 rfl rfl)
theorem dX1_birdOf_7 : decode cX1_birdOf 7 = .ok (.iload_n 1, 1) := dk_27 (dk_at dksX1_birdOf_0 7 rfl rfl)
theorem dX1_birdOf_8 : decode cX1_birdOf 8 = .ok (.invokestatic 111, 3) := dk_184 0 111 (dk_at dksX1_birdOf_0 8 rfl rfl)
theorem dX1_birdOf_11 : decode cX1_birdOf 11 = .ok (.checkcast 115, 3) := dk_192 0 115 (dk_at dksX1_birdOf_0 11 rfl rfl)
theorem dX1_birdOf_14 : decode cX1_birdOf 14 = .ok (.astore_n 3, 1) := dk_78 (dk_at dksX1_birdOf_0 14 rfl rfl)
theorem dX1_birdOf_15 : decode cX1_birdOf 15 = .ok (.iload_n 2, 1) := dk_28 (dk_at dksX1_birdOf_0 15 rfl rfl)
theorem dX1_birdOf_16 : decode cX1_birdOf 16 = .ok (.iconst 0, 1) := dk_3 (dk_at dksX1_birdOf_0 16 rfl rfl)
theorem dX1_birdOf_17 : decode cX1_birdOf 17 = .ok (.bipush 6, 2) := dk_16 6 (dk_at dksX1_birdOf_0 17 rfl rfl)
theorem dX1_birdOf_19 : decode cX1_birdOf 19 = .ok (.invokestatic 117, 3) := dk_184 0 117 (dk_at dksX1_birdOf_0 19 rfl rfl)
theorem dX1_birdOf_22 : decode cX1_birdOf 22 = .ok (.invokestatic 121, 3) := dk_184 0 121 (dk_at dksX1_birdOf_1 0 rfl rfl)
theorem dX1_birdOf_25 : decode cX1_birdOf 25 = .ok (.iload_n 2, 1) := dk_28 (dk_at dksX1_birdOf_1 3 rfl rfl)
theorem dX1_birdOf_26 : decode cX1_birdOf 26 = .ok (.tableswitch 88 0 5 #[38, 53, 60, 67, 74, 81], 38) := by decide +kernel
theorem dX1_birdOf_64 : decode cX1_birdOf 64 = .ok (.aload_n 3, 1) := dk_45 (dk_at dksX1_birdOf_3 0 rfl rfl)
theorem dX1_birdOf_65 : decode cX1_birdOf 65 = .ok (.getfield 125, 3) := dk_180 0 125 (dk_at dksX1_birdOf_3 1 rfl rfl)
theorem dX1_birdOf_68 : decode cX1_birdOf 68 = .ok (.ifCond .eq 7, 3) := dk_153 0 7 (dk_at dksX1_birdOf_3 4 rfl rfl)
theorem dX1_birdOf_71 : decode cX1_birdOf 71 = .ok (.iconst 1, 1) := dk_4 (dk_at dksX1_birdOf_3 7 rfl rfl)
theorem dX1_birdOf_72 : decode cX1_birdOf 72 = .ok (.goto 60, 3) := dk_167 0 60 (dk_at dksX1_birdOf_3 8 rfl rfl)
theorem dX1_birdOf_75 : decode cX1_birdOf 75 = .ok (.iconst 0, 1) := dk_3 (dk_at dksX1_birdOf_3 11 rfl rfl)
theorem dX1_birdOf_76 : decode cX1_birdOf 76 = .ok (.goto 56, 3) := dk_167 0 56 (dk_at dksX1_birdOf_3 12 rfl rfl)
theorem dX1_birdOf_79 : decode cX1_birdOf 79 = .ok (.aload_n 3, 1) := dk_45 (dk_at dksX1_birdOf_3 15 rfl rfl)
theorem dX1_birdOf_80 : decode cX1_birdOf 80 = .ok (.getfield 129, 3) := dk_180 0 129 (dk_at dksX1_birdOf_3 16 rfl rfl)
theorem dX1_birdOf_83 : decode cX1_birdOf 83 = .ok (.goto 49, 3) := dk_167 0 49 (dk_at dksX1_birdOf_3 19 rfl rfl)
theorem dX1_birdOf_86 : decode cX1_birdOf 86 = .ok (.aload_n 3, 1) := dk_45 (dk_at dksX1_birdOf_3 22 rfl rfl)
theorem dX1_birdOf_87 : decode cX1_birdOf 87 = .ok (.getfield 132, 3) := dk_180 0 132 (dk_at dksX1_birdOf_4 0 rfl rfl)
theorem dX1_birdOf_90 : decode cX1_birdOf 90 = .ok (.goto 42, 3) := dk_167 0 42 (dk_at dksX1_birdOf_4 3 rfl rfl)
theorem dX1_birdOf_93 : decode cX1_birdOf 93 = .ok (.aload_n 3, 1) := dk_45 (dk_at dksX1_birdOf_4 6 rfl rfl)
theorem dX1_birdOf_94 : decode cX1_birdOf 94 = .ok (.getfield 135, 3) := dk_180 0 135 (dk_at dksX1_birdOf_4 7 rfl rfl)
theorem dX1_birdOf_97 : decode cX1_birdOf 97 = .ok (.goto 35, 3) := dk_167 0 35 (dk_at dksX1_birdOf_4 10 rfl rfl)
theorem dX1_birdOf_100 : decode cX1_birdOf 100 = .ok (.aload_n 3, 1) := dk_45 (dk_at dksX1_birdOf_4 13 rfl rfl)
theorem dX1_birdOf_101 : decode cX1_birdOf 101 = .ok (.getfield 138, 3) := dk_180 0 138 (dk_at dksX1_birdOf_4 14 rfl rfl)
theorem dX1_birdOf_104 : decode cX1_birdOf 104 = .ok (.goto 28, 3) := dk_167 0 28 (dk_at dksX1_birdOf_4 17 rfl rfl)
theorem dX1_birdOf_107 : decode cX1_birdOf 107 = .ok (.aload_n 3, 1) := dk_45 (dk_at dksX1_birdOf_4 20 rfl rfl)
theorem dX1_birdOf_108 : decode cX1_birdOf 108 = .ok (.getfield 141, 3) := dk_180 0 141 (dk_at dksX1_birdOf_4 21 rfl rfl)
theorem dX1_birdOf_111 : decode cX1_birdOf 111 = .ok (.goto 21, 3) := dk_167 0 21 (dk_at dksX1_birdOf_5 0 rfl rfl)
theorem dX1_birdOf_114 : decode cX1_birdOf 114 = .ok (.new 144, 3) := dk_187 0 144 (dk_at dksX1_birdOf_5 3 rfl rfl)
theorem dX1_birdOf_117 : decode cX1_birdOf 117 = .ok (.dup, 1) := dk_89 (dk_at dksX1_birdOf_5 6 rfl rfl)
theorem dX1_birdOf_118 : decode cX1_birdOf 118 = .ok (.iload_n 1, 1) := dk_27 (dk_at dksX1_birdOf_5 7 rfl rfl)
theorem dX1_birdOf_119 : decode cX1_birdOf 119 = .ok (.aload_n 0, 1) := dk_42 (dk_at dksX1_birdOf_5 8 rfl rfl)
theorem dX1_birdOf_120 : decode cX1_birdOf 120 = .ok (.getfield 27, 3) := dk_180 0 27 (dk_at dksX1_birdOf_5 9 rfl rfl)
theorem dX1_birdOf_123 : decode cX1_birdOf 123 = .ok (.getfield 107, 3) := dk_180 0 107 (dk_at dksX1_birdOf_5 12 rfl rfl)
theorem dX1_birdOf_126 : decode cX1_birdOf 126 = .ok (.invokespecial 146, 3) := dk_183 0 146 (dk_at dksX1_birdOf_5 15 rfl rfl)
theorem dX1_birdOf_129 : decode cX1_birdOf 129 = .ok (.invokevirtual 149, 3) := dk_182 0 149 (dk_at dksX1_birdOf_5 18 rfl rfl)
theorem dX1_birdOf_132 : decode cX1_birdOf 132 = .ok (.ireturn, 1) := dk_172 (dk_at dksX1_birdOf_5 21 rfl rfl)
abbrev cX1_goesTo : ByteArray := prog_1_method_17_code
def yX1_goesTo : MethodName := ⟨RX1, "goesTo", "(I)I"⟩
def dkwX1_goesTo_0 : List UInt8 := [42, 180, 0, 27, 42, 180, 0, 27, 180, 0, 107, 27, 184, 0, 111, 192, 0, 115, 182, 0, 150, 172]
abbrev dktX1_goesTo_0 : List UInt8 := dkwX1_goesTo_0 ++ []
theorem dksX1_goesTo_0 : cX1_goesTo.data.toList.drop 0 = dktX1_goesTo_0 := by decide +kernel
theorem dX1_goesTo_0 : decode cX1_goesTo 0 = .ok (.aload_n 0, 1) := dk_42 (dk_at dksX1_goesTo_0 0 rfl rfl)
theorem dX1_goesTo_1 : decode cX1_goesTo 1 = .ok (.getfield 27, 3) := dk_180 0 27 (dk_at dksX1_goesTo_0 1 rfl rfl)
theorem dX1_goesTo_4 : decode cX1_goesTo 4 = .ok (.aload_n 0, 1) := dk_42 (dk_at dksX1_goesTo_0 4 rfl rfl)
theorem dX1_goesTo_5 : decode cX1_goesTo 5 = .ok (.getfield 27, 3) := dk_180 0 27 (dk_at dksX1_goesTo_0 5 rfl rfl)
theorem dX1_goesTo_8 : decode cX1_goesTo 8 = .ok (.getfield 107, 3) := dk_180 0 107 (dk_at dksX1_goesTo_0 8 rfl rfl)
theorem dX1_goesTo_11 : decode cX1_goesTo 11 = .ok (.iload_n 1, 1) := dk_27 (dk_at dksX1_goesTo_0 11 rfl rfl)
theorem dX1_goesTo_12 : decode cX1_goesTo 12 = .ok (.invokestatic 111, 3) := dk_184 0 111 (dk_at dksX1_goesTo_0 12 rfl rfl)
theorem dX1_goesTo_15 : decode cX1_goesTo 15 = .ok (.checkcast 115, 3) := dk_192 0 115 (dk_at dksX1_goesTo_0 15 rfl rfl)
theorem dX1_goesTo_18 : decode cX1_goesTo 18 = .ok (.invokevirtual 150, 3) := dk_182 0 150 (dk_at dksX1_goesTo_0 18 rfl rfl)
theorem dX1_goesTo_21 : decode cX1_goesTo 21 = .ok (.ireturn, 1) := dk_172 (dk_at dksX1_goesTo_0 21 rfl rfl)
abbrev cX1_ordered : ByteArray := prog_1_method_18_code
def yX1_ordered : MethodName := ⟨RX1, "ordered", "(I)I"⟩
def dkwX1_ordered_2 : List UInt8 := [185, 0, 167, 2, 0, 192, 0, 171, 182, 0, 173, 172]
abbrev dktX1_ordered_2 : List UInt8 := dkwX1_ordered_2 ++ []
def dkwX1_ordered_1 : List UInt8 := [182, 0, 157, 27, 3, 44, 185, 0, 161, 1, 0, 4, 100, 184, 0, 117, 184, 0, 164, 44, 27]
abbrev dktX1_ordered_1 : List UInt8 := dkwX1_ordered_1 ++ dktX1_ordered_2
def dkwX1_ordered_0 : List UInt8 := [187, 0, 154, 89, 183, 0, 156, 77, 187, 0, 144, 89, 2, 42, 180, 0, 27, 180, 0, 107, 183, 0, 146, 44]
abbrev dktX1_ordered_0 : List UInt8 := dkwX1_ordered_0 ++ dktX1_ordered_1
theorem dksX1_ordered_0 : cX1_ordered.data.toList.drop 0 = dktX1_ordered_0 := by decide +kernel
theorem dksX1_ordered_1 : cX1_ordered.data.toList.drop 24 = dktX1_ordered_1 := dk_seg dksX1_ordered_0 24 rfl rfl
theorem dksX1_ordered_2 : cX1_ordered.data.toList.drop 45 = dktX1_ordered_2 := dk_seg dksX1_ordered_1 21 rfl rfl
theorem dX1_ordered_0 : decode cX1_ordered 0 = .ok (.new 154, 3) := dk_187 0 154 (dk_at dksX1_ordered_0 0 rfl rfl)
theorem dX1_ordered_3 : decode cX1_ordered 3 = .ok (.dup, 1) := dk_89 (dk_at dksX1_ordered_0 3 rfl rfl)
theorem dX1_ordered_4 : decode cX1_ordered 4 = .ok (.invokespecial 156, 3) := dk_183 0 156 (dk_at dksX1_ordered_0 4 rfl rfl)
theorem dX1_ordered_7 : decode cX1_ordered 7 = .ok (.astore_n 2, 1) := dk_77 (dk_at dksX1_ordered_0 7 rfl rfl)
theorem dX1_ordered_8 : decode cX1_ordered 8 = .ok (.new 144, 3) := dk_187 0 144 (dk_at dksX1_ordered_0 8 rfl rfl)
theorem dX1_ordered_11 : decode cX1_ordered 11 = .ok (.dup, 1) := dk_89 (dk_at dksX1_ordered_0 11 rfl rfl)
theorem dX1_ordered_12 : decode cX1_ordered 12 = .ok (.iconst (-1), 1) := dk_2 (dk_at dksX1_ordered_0 12 rfl rfl)
theorem dX1_ordered_13 : decode cX1_ordered 13 = .ok (.aload_n 0, 1) := dk_42 (dk_at dksX1_ordered_0 13 rfl rfl)
theorem dX1_ordered_14 : decode cX1_ordered 14 = .ok (.getfield 27, 3) := dk_180 0 27 (dk_at dksX1_ordered_0 14 rfl rfl)
theorem dX1_ordered_17 : decode cX1_ordered 17 = .ok (.getfield 107, 3) := dk_180 0 107 (dk_at dksX1_ordered_0 17 rfl rfl)
theorem dX1_ordered_20 : decode cX1_ordered 20 = .ok (.invokespecial 146, 3) := dk_183 0 146 (dk_at dksX1_ordered_0 20 rfl rfl)
theorem dX1_ordered_23 : decode cX1_ordered 23 = .ok (.aload_n 2, 1) := dk_44 (dk_at dksX1_ordered_0 23 rfl rfl)
theorem dX1_ordered_24 : decode cX1_ordered 24 = .ok (.invokevirtual 157, 3) := dk_182 0 157 (dk_at dksX1_ordered_1 0 rfl rfl)
theorem dX1_ordered_27 : decode cX1_ordered 27 = .ok (.iload_n 1, 1) := dk_27 (dk_at dksX1_ordered_1 3 rfl rfl)
theorem dX1_ordered_28 : decode cX1_ordered 28 = .ok (.iconst 0, 1) := dk_3 (dk_at dksX1_ordered_1 4 rfl rfl)
theorem dX1_ordered_29 : decode cX1_ordered 29 = .ok (.aload_n 2, 1) := dk_44 (dk_at dksX1_ordered_1 5 rfl rfl)
theorem dX1_ordered_30 : decode cX1_ordered 30 = .ok (.invokeinterface 161 1, 5) := by decide +kernel
theorem dX1_ordered_35 : decode cX1_ordered 35 = .ok (.iconst 1, 1) := dk_4 (dk_at dksX1_ordered_1 11 rfl rfl)
theorem dX1_ordered_36 : decode cX1_ordered 36 = .ok (.isub, 1) := dk_100 (dk_at dksX1_ordered_1 12 rfl rfl)
theorem dX1_ordered_37 : decode cX1_ordered 37 = .ok (.invokestatic 117, 3) := dk_184 0 117 (dk_at dksX1_ordered_1 13 rfl rfl)
theorem dX1_ordered_40 : decode cX1_ordered 40 = .ok (.invokestatic 164, 3) := dk_184 0 164 (dk_at dksX1_ordered_1 16 rfl rfl)
theorem dX1_ordered_43 : decode cX1_ordered 43 = .ok (.aload_n 2, 1) := dk_44 (dk_at dksX1_ordered_1 19 rfl rfl)
theorem dX1_ordered_44 : decode cX1_ordered 44 = .ok (.iload_n 1, 1) := dk_27 (dk_at dksX1_ordered_1 20 rfl rfl)
theorem dX1_ordered_45 : decode cX1_ordered 45 = .ok (.invokeinterface 167 2, 5) := by decide +kernel
theorem dX1_ordered_50 : decode cX1_ordered 50 = .ok (.checkcast 171, 3) := dk_192 0 171 (dk_at dksX1_ordered_2 5 rfl rfl)
theorem dX1_ordered_53 : decode cX1_ordered 53 = .ok (.invokevirtual 173, 3) := dk_182 0 173 (dk_at dksX1_ordered_2 8 rfl rfl)
theorem dX1_ordered_56 : decode cX1_ordered 56 = .ok (.ireturn, 1) := dk_172 (dk_at dksX1_ordered_2 11 rfl rfl)
abbrev cX1_requireElement : ByteArray := prog_1_method_5_code
def yX1_requireElement : MethodName := ⟨RX1, "requireElement", "(Z)V"⟩
def dkwX1_requireElement_0 : List UInt8 := [26, 154, 0, 11, 187, 0, 13, 89, 183, 0, 15, 191, 177]
abbrev dktX1_requireElement_0 : List UInt8 := dkwX1_requireElement_0 ++ []
theorem dksX1_requireElement_0 : cX1_requireElement.data.toList.drop 0 = dktX1_requireElement_0 := by decide +kernel
theorem dX1_requireElement_0 : decode cX1_requireElement 0 = .ok (.iload_n 0, 1) := dk_26 (dk_at dksX1_requireElement_0 0 rfl rfl)
theorem dX1_requireElement_1 : decode cX1_requireElement 1 = .ok (.ifCond .ne 11, 3) := dk_154 0 11 (dk_at dksX1_requireElement_0 1 rfl rfl)
theorem dX1_requireElement_4 : decode cX1_requireElement 4 = .ok (.new 13, 3) := dk_187 0 13 (dk_at dksX1_requireElement_0 4 rfl rfl)
theorem dX1_requireElement_7 : decode cX1_requireElement 7 = .ok (.dup, 1) := dk_89 (dk_at dksX1_requireElement_0 7 rfl rfl)
theorem dX1_requireElement_8 : decode cX1_requireElement 8 = .ok (.invokespecial 15, 3) := dk_183 0 15 (dk_at dksX1_requireElement_0 8 rfl rfl)
theorem dX1_requireElement_11 : decode cX1_requireElement 11 = .ok (.athrow, 1) := dk_191 (dk_at dksX1_requireElement_0 11 rfl rfl)
theorem dX1_requireElement_12 : decode cX1_requireElement 12 = .ok (.return_, 1) := dk_177 (dk_at dksX1_requireElement_0 12 rfl rfl)
abbrev cX1_lawnOf : ByteArray := prog_1_method_20_code
def yX1_lawnOf : MethodName := ⟨RX1, "lawnOf", "(II)I"⟩
def dkwX1_lawnOf_9 : List UInt8 := [184, 0, 226, 46, 172]
abbrev dktX1_lawnOf_9 : List UInt8 := dkwX1_lawnOf_9 ++ []
def dkwX1_lawnOf_8 : List UInt8 := [167, 255, 215, 21, 4, 172, 42, 180, 0, 27, 180, 0, 219, 29, 42, 180, 0, 27, 29, 16, 20, 182, 0, 222]
abbrev dktX1_lawnOf_8 : List UInt8 := dkwX1_lawnOf_8 ++ dktX1_lawnOf_9
def dkwX1_lawnOf_7 : List UInt8 := [192, 0, 216, 58, 6, 21, 4, 25, 6, 180, 0, 218, 29, 160, 0, 7, 4, 167, 0, 4, 3, 96, 54, 4]
abbrev dktX1_lawnOf_7 : List UInt8 := dkwX1_lawnOf_7 ++ dktX1_lawnOf_8
def dkwX1_lawnOf_6 : List UInt8 := [185, 0, 197, 1, 0, 58, 5, 25, 5, 185, 0, 201, 1, 0, 153, 0, 37, 25, 5, 185, 0, 207, 1, 0]
abbrev dktX1_lawnOf_6 : List UInt8 := dkwX1_lawnOf_6 ++ dktX1_lawnOf_7
def dkwX1_lawnOf_5 : List UInt8 := [167, 0, 4, 3, 96, 54, 4, 167, 255, 215, 21, 4, 172, 42, 180, 0, 27, 180, 0, 213]
abbrev dktX1_lawnOf_5 : List UInt8 := dkwX1_lawnOf_5 ++ dktX1_lawnOf_6
def dkwX1_lawnOf_4 : List UInt8 := [25, 5, 185, 0, 207, 1, 0, 192, 0, 210, 58, 6, 21, 4, 25, 6, 180, 0, 212, 29, 160, 0, 7, 4]
abbrev dktX1_lawnOf_4 : List UInt8 := dkwX1_lawnOf_4 ++ dktX1_lawnOf_5
def dkwX1_lawnOf_3 : List UInt8 := [42, 180, 0, 27, 180, 0, 194, 185, 0, 197, 1, 0, 58, 5, 25, 5, 185, 0, 201, 1, 0, 153, 0, 37]
abbrev dktX1_lawnOf_3 : List UInt8 := dkwX1_lawnOf_3 ++ dktX1_lawnOf_4
def dkwX1_lawnOf_2 : List UInt8 := [42, 180, 0, 27, 180, 0, 182, 29, 46, 172, 42, 180, 0, 27, 29, 186, 0, 186, 0, 0, 182, 0, 190, 172]
abbrev dktX1_lawnOf_2 : List UInt8 := dkwX1_lawnOf_2 ++ dktX1_lawnOf_3
def dkwX1_lawnOf_1 : List UInt8 := [170, 0, 0, 0, 0, 176, 0, 0, 0, 0, 0, 0, 0, 3, 0, 0, 0, 30, 0, 0, 0, 40, 0, 0, 0, 54, 0, 0, 0, 115]
abbrev dktX1_lawnOf_1 : List UInt8 := dkwX1_lawnOf_1 ++ dktX1_lawnOf_2
def dkwX1_lawnOf_0 : List UInt8 := [27, 184, 0, 179, 62, 28, 3, 7, 184, 0, 117, 184, 0, 121, 3, 54, 4, 28]
abbrev dktX1_lawnOf_0 : List UInt8 := dkwX1_lawnOf_0 ++ dktX1_lawnOf_1
theorem dksX1_lawnOf_0 : cX1_lawnOf.data.toList.drop 0 = dktX1_lawnOf_0 := by decide +kernel
theorem dksX1_lawnOf_1 : cX1_lawnOf.data.toList.drop 18 = dktX1_lawnOf_1 := dk_seg dksX1_lawnOf_0 18 rfl rfl
theorem dksX1_lawnOf_2 : cX1_lawnOf.data.toList.drop 48 = dktX1_lawnOf_2 := dk_seg dksX1_lawnOf_1 30 rfl rfl
theorem dksX1_lawnOf_3 : cX1_lawnOf.data.toList.drop 72 = dktX1_lawnOf_3 := dk_seg dksX1_lawnOf_2 24 rfl rfl
theorem dksX1_lawnOf_4 : cX1_lawnOf.data.toList.drop 96 = dktX1_lawnOf_4 := dk_seg dksX1_lawnOf_3 24 rfl rfl
theorem dksX1_lawnOf_5 : cX1_lawnOf.data.toList.drop 120 = dktX1_lawnOf_5 := dk_seg dksX1_lawnOf_4 24 rfl rfl
theorem dksX1_lawnOf_6 : cX1_lawnOf.data.toList.drop 140 = dktX1_lawnOf_6 := dk_seg dksX1_lawnOf_5 20 rfl rfl
theorem dksX1_lawnOf_7 : cX1_lawnOf.data.toList.drop 164 = dktX1_lawnOf_7 := dk_seg dksX1_lawnOf_6 24 rfl rfl
theorem dksX1_lawnOf_8 : cX1_lawnOf.data.toList.drop 188 = dktX1_lawnOf_8 := dk_seg dksX1_lawnOf_7 24 rfl rfl
theorem dksX1_lawnOf_9 : cX1_lawnOf.data.toList.drop 212 = dktX1_lawnOf_9 := dk_seg dksX1_lawnOf_8 24 rfl rfl
theorem dX1_lawnOf_0 : decode cX1_lawnOf 0 = .ok (.iload_n 1, 1) := dk_27 (dk_at dksX1_lawnOf_0 0 rfl rfl)
theorem dX1_lawnOf_1 : decode cX1_lawnOf 1 = .ok (.invokestatic 179, 3) := dk_184 0 179 (dk_at dksX1_lawnOf_0 1 rfl rfl)
theorem dX1_lawnOf_4 : decode cX1_lawnOf 4 = .ok (.istore_n 3, 1) := dk_62 (dk_at dksX1_lawnOf_0 4 rfl rfl)
theorem dX1_lawnOf_5 : decode cX1_lawnOf 5 = .ok (.iload_n 2, 1) := dk_28 (dk_at dksX1_lawnOf_0 5 rfl rfl)
theorem dX1_lawnOf_6 : decode cX1_lawnOf 6 = .ok (.iconst 0, 1) := dk_3 (dk_at dksX1_lawnOf_0 6 rfl rfl)
theorem dX1_lawnOf_7 : decode cX1_lawnOf 7 = .ok (.iconst 4, 1) := dk_7 (dk_at dksX1_lawnOf_0 7 rfl rfl)
theorem dX1_lawnOf_8 : decode cX1_lawnOf 8 = .ok (.invokestatic 117, 3) := dk_184 0 117 (dk_at dksX1_lawnOf_0 8 rfl rfl)
theorem dX1_lawnOf_11 : decode cX1_lawnOf 11 = .ok (.invokestatic 121, 3) := dk_184 0 121 (dk_at dksX1_lawnOf_0 11 rfl rfl)
theorem dX1_lawnOf_14 : decode cX1_lawnOf 14 = .ok (.iconst 0, 1) := dk_3 (dk_at dksX1_lawnOf_0 14 rfl rfl)
theorem dX1_lawnOf_15 : decode cX1_lawnOf 15 = .ok (.istore 4, 2) := dk_54 4 (dk_at dksX1_lawnOf_0 15 rfl rfl)
theorem dX1_lawnOf_17 : decode cX1_lawnOf 17 = .ok (.iload_n 2, 1) := dk_28 (dk_at dksX1_lawnOf_0 17 rfl rfl)
theorem dX1_lawnOf_18 : decode cX1_lawnOf 18 = .ok (.tableswitch 176 0 3 #[30, 40, 54, 115], 30) := by decide +kernel
theorem dX1_lawnOf_48 : decode cX1_lawnOf 48 = .ok (.aload_n 0, 1) := dk_42 (dk_at dksX1_lawnOf_2 0 rfl rfl)
theorem dX1_lawnOf_49 : decode cX1_lawnOf 49 = .ok (.getfield 27, 3) := dk_180 0 27 (dk_at dksX1_lawnOf_2 1 rfl rfl)
theorem dX1_lawnOf_52 : decode cX1_lawnOf 52 = .ok (.getfield 182, 3) := dk_180 0 182 (dk_at dksX1_lawnOf_2 4 rfl rfl)
theorem dX1_lawnOf_55 : decode cX1_lawnOf 55 = .ok (.iload_n 3, 1) := dk_29 (dk_at dksX1_lawnOf_2 7 rfl rfl)
theorem dX1_lawnOf_56 : decode cX1_lawnOf 56 = .ok (.iaload, 1) := dk_46 (dk_at dksX1_lawnOf_2 8 rfl rfl)
theorem dX1_lawnOf_57 : decode cX1_lawnOf 57 = .ok (.ireturn, 1) := dk_172 (dk_at dksX1_lawnOf_2 9 rfl rfl)
theorem dX1_lawnOf_58 : decode cX1_lawnOf 58 = .ok (.aload_n 0, 1) := dk_42 (dk_at dksX1_lawnOf_2 10 rfl rfl)
theorem dX1_lawnOf_59 : decode cX1_lawnOf 59 = .ok (.getfield 27, 3) := dk_180 0 27 (dk_at dksX1_lawnOf_2 11 rfl rfl)
theorem dX1_lawnOf_62 : decode cX1_lawnOf 62 = .ok (.iload_n 3, 1) := dk_29 (dk_at dksX1_lawnOf_2 14 rfl rfl)
theorem dX1_lawnOf_63 : decode cX1_lawnOf 63 = .ok (.invokedynamic 186, 5) := by decide +kernel
theorem dX1_lawnOf_68 : decode cX1_lawnOf 68 = .ok (.invokevirtual 190, 3) := dk_182 0 190 (dk_at dksX1_lawnOf_2 20 rfl rfl)
theorem dX1_lawnOf_71 : decode cX1_lawnOf 71 = .ok (.ireturn, 1) := dk_172 (dk_at dksX1_lawnOf_2 23 rfl rfl)
theorem dX1_lawnOf_72 : decode cX1_lawnOf 72 = .ok (.aload_n 0, 1) := dk_42 (dk_at dksX1_lawnOf_3 0 rfl rfl)
theorem dX1_lawnOf_73 : decode cX1_lawnOf 73 = .ok (.getfield 27, 3) := dk_180 0 27 (dk_at dksX1_lawnOf_3 1 rfl rfl)
theorem dX1_lawnOf_76 : decode cX1_lawnOf 76 = .ok (.getfield 194, 3) := dk_180 0 194 (dk_at dksX1_lawnOf_3 4 rfl rfl)
theorem dX1_lawnOf_79 : decode cX1_lawnOf 79 = .ok (.invokeinterface 197 1, 5) := by decide +kernel
theorem dX1_lawnOf_84 : decode cX1_lawnOf 84 = .ok (.astore 5, 2) := dk_58 5 (dk_at dksX1_lawnOf_3 12 rfl rfl)
theorem dX1_lawnOf_86 : decode cX1_lawnOf 86 = .ok (.aload 5, 2) := dk_25 5 (dk_at dksX1_lawnOf_3 14 rfl rfl)
theorem dX1_lawnOf_88 : decode cX1_lawnOf 88 = .ok (.invokeinterface 201 1, 5) := by decide +kernel
theorem dX1_lawnOf_93 : decode cX1_lawnOf 93 = .ok (.ifCond .eq 37, 3) := dk_153 0 37 (dk_at dksX1_lawnOf_3 21 rfl rfl)
theorem dX1_lawnOf_96 : decode cX1_lawnOf 96 = .ok (.aload 5, 2) := dk_25 5 (dk_at dksX1_lawnOf_4 0 rfl rfl)
theorem dX1_lawnOf_98 : decode cX1_lawnOf 98 = .ok (.invokeinterface 207 1, 5) := by decide +kernel
theorem dX1_lawnOf_103 : decode cX1_lawnOf 103 = .ok (.checkcast 210, 3) := dk_192 0 210 (dk_at dksX1_lawnOf_4 7 rfl rfl)
theorem dX1_lawnOf_106 : decode cX1_lawnOf 106 = .ok (.astore 6, 2) := dk_58 6 (dk_at dksX1_lawnOf_4 10 rfl rfl)
theorem dX1_lawnOf_108 : decode cX1_lawnOf 108 = .ok (.iload 4, 2) := dk_21 4 (dk_at dksX1_lawnOf_4 12 rfl rfl)
theorem dX1_lawnOf_110 : decode cX1_lawnOf 110 = .ok (.aload 6, 2) := dk_25 6 (dk_at dksX1_lawnOf_4 14 rfl rfl)
theorem dX1_lawnOf_112 : decode cX1_lawnOf 112 = .ok (.getfield 212, 3) := dk_180 0 212 (dk_at dksX1_lawnOf_4 16 rfl rfl)
theorem dX1_lawnOf_115 : decode cX1_lawnOf 115 = .ok (.iload_n 3, 1) := dk_29 (dk_at dksX1_lawnOf_4 19 rfl rfl)
theorem dX1_lawnOf_116 : decode cX1_lawnOf 116 = .ok (.if_icmp .ne 7, 3) := dk_160 0 7 (dk_at dksX1_lawnOf_4 20 rfl rfl)
theorem dX1_lawnOf_119 : decode cX1_lawnOf 119 = .ok (.iconst 1, 1) := dk_4 (dk_at dksX1_lawnOf_4 23 rfl rfl)
theorem dX1_lawnOf_120 : decode cX1_lawnOf 120 = .ok (.goto 4, 3) := dk_167 0 4 (dk_at dksX1_lawnOf_5 0 rfl rfl)
theorem dX1_lawnOf_123 : decode cX1_lawnOf 123 = .ok (.iconst 0, 1) := dk_3 (dk_at dksX1_lawnOf_5 3 rfl rfl)
theorem dX1_lawnOf_124 : decode cX1_lawnOf 124 = .ok (.iadd, 1) := dk_96 (dk_at dksX1_lawnOf_5 4 rfl rfl)
theorem dX1_lawnOf_125 : decode cX1_lawnOf 125 = .ok (.istore 4, 2) := dk_54 4 (dk_at dksX1_lawnOf_5 5 rfl rfl)
theorem dX1_lawnOf_127 : decode cX1_lawnOf 127 = .ok (.goto (-41), 3) := dk_167 255 215 (dk_at dksX1_lawnOf_5 7 rfl rfl)
theorem dX1_lawnOf_130 : decode cX1_lawnOf 130 = .ok (.iload 4, 2) := dk_21 4 (dk_at dksX1_lawnOf_5 10 rfl rfl)
theorem dX1_lawnOf_132 : decode cX1_lawnOf 132 = .ok (.ireturn, 1) := dk_172 (dk_at dksX1_lawnOf_5 12 rfl rfl)
theorem dX1_lawnOf_133 : decode cX1_lawnOf 133 = .ok (.aload_n 0, 1) := dk_42 (dk_at dksX1_lawnOf_5 13 rfl rfl)
theorem dX1_lawnOf_134 : decode cX1_lawnOf 134 = .ok (.getfield 27, 3) := dk_180 0 27 (dk_at dksX1_lawnOf_5 14 rfl rfl)
theorem dX1_lawnOf_137 : decode cX1_lawnOf 137 = .ok (.getfield 213, 3) := dk_180 0 213 (dk_at dksX1_lawnOf_5 17 rfl rfl)
theorem dX1_lawnOf_140 : decode cX1_lawnOf 140 = .ok (.invokeinterface 197 1, 5) := by decide +kernel
theorem dX1_lawnOf_145 : decode cX1_lawnOf 145 = .ok (.astore 5, 2) := dk_58 5 (dk_at dksX1_lawnOf_6 5 rfl rfl)
theorem dX1_lawnOf_147 : decode cX1_lawnOf 147 = .ok (.aload 5, 2) := dk_25 5 (dk_at dksX1_lawnOf_6 7 rfl rfl)
theorem dX1_lawnOf_149 : decode cX1_lawnOf 149 = .ok (.invokeinterface 201 1, 5) := by decide +kernel
theorem dX1_lawnOf_154 : decode cX1_lawnOf 154 = .ok (.ifCond .eq 37, 3) := dk_153 0 37 (dk_at dksX1_lawnOf_6 14 rfl rfl)
theorem dX1_lawnOf_157 : decode cX1_lawnOf 157 = .ok (.aload 5, 2) := dk_25 5 (dk_at dksX1_lawnOf_6 17 rfl rfl)
theorem dX1_lawnOf_159 : decode cX1_lawnOf 159 = .ok (.invokeinterface 207 1, 5) := by decide +kernel
theorem dX1_lawnOf_164 : decode cX1_lawnOf 164 = .ok (.checkcast 216, 3) := dk_192 0 216 (dk_at dksX1_lawnOf_7 0 rfl rfl)
theorem dX1_lawnOf_167 : decode cX1_lawnOf 167 = .ok (.astore 6, 2) := dk_58 6 (dk_at dksX1_lawnOf_7 3 rfl rfl)
theorem dX1_lawnOf_169 : decode cX1_lawnOf 169 = .ok (.iload 4, 2) := dk_21 4 (dk_at dksX1_lawnOf_7 5 rfl rfl)
theorem dX1_lawnOf_171 : decode cX1_lawnOf 171 = .ok (.aload 6, 2) := dk_25 6 (dk_at dksX1_lawnOf_7 7 rfl rfl)
theorem dX1_lawnOf_173 : decode cX1_lawnOf 173 = .ok (.getfield 218, 3) := dk_180 0 218 (dk_at dksX1_lawnOf_7 9 rfl rfl)
theorem dX1_lawnOf_176 : decode cX1_lawnOf 176 = .ok (.iload_n 3, 1) := dk_29 (dk_at dksX1_lawnOf_7 12 rfl rfl)
theorem dX1_lawnOf_177 : decode cX1_lawnOf 177 = .ok (.if_icmp .ne 7, 3) := dk_160 0 7 (dk_at dksX1_lawnOf_7 13 rfl rfl)
theorem dX1_lawnOf_180 : decode cX1_lawnOf 180 = .ok (.iconst 1, 1) := dk_4 (dk_at dksX1_lawnOf_7 16 rfl rfl)
theorem dX1_lawnOf_181 : decode cX1_lawnOf 181 = .ok (.goto 4, 3) := dk_167 0 4 (dk_at dksX1_lawnOf_7 17 rfl rfl)
theorem dX1_lawnOf_184 : decode cX1_lawnOf 184 = .ok (.iconst 0, 1) := dk_3 (dk_at dksX1_lawnOf_7 20 rfl rfl)
theorem dX1_lawnOf_185 : decode cX1_lawnOf 185 = .ok (.iadd, 1) := dk_96 (dk_at dksX1_lawnOf_7 21 rfl rfl)
theorem dX1_lawnOf_186 : decode cX1_lawnOf 186 = .ok (.istore 4, 2) := dk_54 4 (dk_at dksX1_lawnOf_7 22 rfl rfl)
theorem dX1_lawnOf_188 : decode cX1_lawnOf 188 = .ok (.goto (-41), 3) := dk_167 255 215 (dk_at dksX1_lawnOf_8 0 rfl rfl)
theorem dX1_lawnOf_191 : decode cX1_lawnOf 191 = .ok (.iload 4, 2) := dk_21 4 (dk_at dksX1_lawnOf_8 3 rfl rfl)
theorem dX1_lawnOf_193 : decode cX1_lawnOf 193 = .ok (.ireturn, 1) := dk_172 (dk_at dksX1_lawnOf_8 5 rfl rfl)
theorem dX1_lawnOf_194 : decode cX1_lawnOf 194 = .ok (.aload_n 0, 1) := dk_42 (dk_at dksX1_lawnOf_8 6 rfl rfl)
theorem dX1_lawnOf_195 : decode cX1_lawnOf 195 = .ok (.getfield 27, 3) := dk_180 0 27 (dk_at dksX1_lawnOf_8 7 rfl rfl)
theorem dX1_lawnOf_198 : decode cX1_lawnOf 198 = .ok (.getfield 219, 3) := dk_180 0 219 (dk_at dksX1_lawnOf_8 10 rfl rfl)
theorem dX1_lawnOf_201 : decode cX1_lawnOf 201 = .ok (.iload_n 3, 1) := dk_29 (dk_at dksX1_lawnOf_8 13 rfl rfl)
theorem dX1_lawnOf_202 : decode cX1_lawnOf 202 = .ok (.aload_n 0, 1) := dk_42 (dk_at dksX1_lawnOf_8 14 rfl rfl)
theorem dX1_lawnOf_203 : decode cX1_lawnOf 203 = .ok (.getfield 27, 3) := dk_180 0 27 (dk_at dksX1_lawnOf_8 15 rfl rfl)
theorem dX1_lawnOf_206 : decode cX1_lawnOf 206 = .ok (.iload_n 3, 1) := dk_29 (dk_at dksX1_lawnOf_8 18 rfl rfl)
theorem dX1_lawnOf_207 : decode cX1_lawnOf 207 = .ok (.bipush 20, 2) := dk_16 20 (dk_at dksX1_lawnOf_8 19 rfl rfl)
theorem dX1_lawnOf_209 : decode cX1_lawnOf 209 = .ok (.invokevirtual 222, 3) := dk_182 0 222 (dk_at dksX1_lawnOf_8 21 rfl rfl)
theorem dX1_lawnOf_212 : decode cX1_lawnOf 212 = .ok (.invokestatic 226, 3) := dk_184 0 226 (dk_at dksX1_lawnOf_9 0 rfl rfl)
theorem dX1_lawnOf_215 : decode cX1_lawnOf 215 = .ok (.iaload, 1) := dk_46 (dk_at dksX1_lawnOf_9 3 rfl rfl)
theorem dX1_lawnOf_216 : decode cX1_lawnOf 216 = .ok (.ireturn, 1) := dk_172 (dk_at dksX1_lawnOf_9 4 rfl rfl)
abbrev cX1_lambda_lawnOf_3 : ByteArray := prog_1_method_64_code
def yX1_lambda_lawnOf_3 : MethodName := ⟨RX1, "lambda$lawnOf$3", "(ILPeacockLawns$Bird;)Z"⟩
def dkwX1_lambda_lawnOf_3_0 : List UInt8 := [43, 180, 0, 129, 26, 160, 0, 7, 4, 167, 0, 4, 3, 172]
abbrev dktX1_lambda_lawnOf_3_0 : List UInt8 := dkwX1_lambda_lawnOf_3_0 ++ []
theorem dksX1_lambda_lawnOf_3_0 : cX1_lambda_lawnOf_3.data.toList.drop 0 = dktX1_lambda_lawnOf_3_0 := by decide +kernel
theorem dX1_lambda_lawnOf_3_0 : decode cX1_lambda_lawnOf_3 0 = .ok (.aload_n 1, 1) := dk_43 (dk_at dksX1_lambda_lawnOf_3_0 0 rfl rfl)
theorem dX1_lambda_lawnOf_3_1 : decode cX1_lambda_lawnOf_3 1 = .ok (.getfield 129, 3) := dk_180 0 129 (dk_at dksX1_lambda_lawnOf_3_0 1 rfl rfl)
theorem dX1_lambda_lawnOf_3_4 : decode cX1_lambda_lawnOf_3 4 = .ok (.iload_n 0, 1) := dk_26 (dk_at dksX1_lambda_lawnOf_3_0 4 rfl rfl)
theorem dX1_lambda_lawnOf_3_5 : decode cX1_lambda_lawnOf_3 5 = .ok (.if_icmp .ne 7, 3) := dk_160 0 7 (dk_at dksX1_lambda_lawnOf_3_0 5 rfl rfl)
theorem dX1_lambda_lawnOf_3_8 : decode cX1_lambda_lawnOf_3 8 = .ok (.iconst 1, 1) := dk_4 (dk_at dksX1_lambda_lawnOf_3_0 8 rfl rfl)
theorem dX1_lambda_lawnOf_3_9 : decode cX1_lambda_lawnOf_3 9 = .ok (.goto 4, 3) := dk_167 0 4 (dk_at dksX1_lambda_lawnOf_3_0 9 rfl rfl)
theorem dX1_lambda_lawnOf_3_12 : decode cX1_lambda_lawnOf_3 12 = .ok (.iconst 0, 1) := dk_3 (dk_at dksX1_lambda_lawnOf_3_0 12 rfl rfl)
theorem dX1_lambda_lawnOf_3_13 : decode cX1_lambda_lawnOf_3 13 = .ok (.ireturn, 1) := dk_172 (dk_at dksX1_lambda_lawnOf_3_0 13 rfl rfl)
abbrev cX1_height : ByteArray := prog_1_method_21_code
def yX1_height : MethodName := ⟨RX1, "height", "(I)I"⟩
def dkwX1_height_0 : List UInt8 := [27, 3, 16, 11, 184, 0, 117, 184, 0, 229, 42, 180, 0, 27, 180, 0, 219, 27, 46, 172]
abbrev dktX1_height_0 : List UInt8 := dkwX1_height_0 ++ []
theorem dksX1_height_0 : cX1_height.data.toList.drop 0 = dktX1_height_0 := by decide +kernel
theorem dX1_height_0 : decode cX1_height 0 = .ok (.iload_n 1, 1) := dk_27 (dk_at dksX1_height_0 0 rfl rfl)
theorem dX1_height_1 : decode cX1_height 1 = .ok (.iconst 0, 1) := dk_3 (dk_at dksX1_height_0 1 rfl rfl)
theorem dX1_height_2 : decode cX1_height 2 = .ok (.bipush 11, 2) := dk_16 11 (dk_at dksX1_height_0 2 rfl rfl)
theorem dX1_height_4 : decode cX1_height 4 = .ok (.invokestatic 117, 3) := dk_184 0 117 (dk_at dksX1_height_0 4 rfl rfl)
theorem dX1_height_7 : decode cX1_height 7 = .ok (.invokestatic 229, 3) := dk_184 0 229 (dk_at dksX1_height_0 7 rfl rfl)
theorem dX1_height_10 : decode cX1_height 10 = .ok (.aload_n 0, 1) := dk_42 (dk_at dksX1_height_0 10 rfl rfl)
theorem dX1_height_11 : decode cX1_height 11 = .ok (.getfield 27, 3) := dk_180 0 27 (dk_at dksX1_height_0 11 rfl rfl)
theorem dX1_height_14 : decode cX1_height 14 = .ok (.getfield 219, 3) := dk_180 0 219 (dk_at dksX1_height_0 14 rfl rfl)
theorem dX1_height_17 : decode cX1_height 17 = .ok (.iload_n 1, 1) := dk_27 (dk_at dksX1_height_0 17 rfl rfl)
theorem dX1_height_18 : decode cX1_height 18 = .ok (.iaload, 1) := dk_46 (dk_at dksX1_height_0 18 rfl rfl)
theorem dX1_height_19 : decode cX1_height 19 = .ok (.ireturn, 1) := dk_172 (dk_at dksX1_height_0 19 rfl rfl)
abbrev cX1_reached : ByteArray := prog_1_method_22_code
def yX1_reached : MethodName := ⟨RX1, "reached", "(II)I"⟩
def dkwX1_reached_1 : List UInt8 := [182, 0, 232, 172]
abbrev dktX1_reached_1 : List UInt8 := dkwX1_reached_1 ++ []
def dkwX1_reached_0 : List UInt8 := [27, 184, 0, 179, 62, 28, 3, 16, 20, 184, 0, 117, 184, 0, 121, 42, 180, 0, 27, 29, 28, 3]
abbrev dktX1_reached_0 : List UInt8 := dkwX1_reached_0 ++ dktX1_reached_1
theorem dksX1_reached_0 : cX1_reached.data.toList.drop 0 = dktX1_reached_0 := by decide +kernel
theorem dksX1_reached_1 : cX1_reached.data.toList.drop 22 = dktX1_reached_1 := dk_seg dksX1_reached_0 22 rfl rfl
theorem dX1_reached_0 : decode cX1_reached 0 = .ok (.iload_n 1, 1) := dk_27 (dk_at dksX1_reached_0 0 rfl rfl)
theorem dX1_reached_1 : decode cX1_reached 1 = .ok (.invokestatic 179, 3) := dk_184 0 179 (dk_at dksX1_reached_0 1 rfl rfl)
theorem dX1_reached_4 : decode cX1_reached 4 = .ok (.istore_n 3, 1) := dk_62 (dk_at dksX1_reached_0 4 rfl rfl)
theorem dX1_reached_5 : decode cX1_reached 5 = .ok (.iload_n 2, 1) := dk_28 (dk_at dksX1_reached_0 5 rfl rfl)
theorem dX1_reached_6 : decode cX1_reached 6 = .ok (.iconst 0, 1) := dk_3 (dk_at dksX1_reached_0 6 rfl rfl)
theorem dX1_reached_7 : decode cX1_reached 7 = .ok (.bipush 20, 2) := dk_16 20 (dk_at dksX1_reached_0 7 rfl rfl)
theorem dX1_reached_9 : decode cX1_reached 9 = .ok (.invokestatic 117, 3) := dk_184 0 117 (dk_at dksX1_reached_0 9 rfl rfl)
theorem dX1_reached_12 : decode cX1_reached 12 = .ok (.invokestatic 121, 3) := dk_184 0 121 (dk_at dksX1_reached_0 12 rfl rfl)
theorem dX1_reached_15 : decode cX1_reached 15 = .ok (.aload_n 0, 1) := dk_42 (dk_at dksX1_reached_0 15 rfl rfl)
theorem dX1_reached_16 : decode cX1_reached 16 = .ok (.getfield 27, 3) := dk_180 0 27 (dk_at dksX1_reached_0 16 rfl rfl)
theorem dX1_reached_19 : decode cX1_reached 19 = .ok (.iload_n 3, 1) := dk_29 (dk_at dksX1_reached_0 19 rfl rfl)
theorem dX1_reached_20 : decode cX1_reached 20 = .ok (.iload_n 2, 1) := dk_28 (dk_at dksX1_reached_0 20 rfl rfl)
theorem dX1_reached_21 : decode cX1_reached 21 = .ok (.iconst 0, 1) := dk_3 (dk_at dksX1_reached_0 21 rfl rfl)
theorem dX1_reached_22 : decode cX1_reached 22 = .ok (.invokevirtual 232, 3) := dk_182 0 232 (dk_at dksX1_reached_1 0 rfl rfl)
theorem dX1_reached_25 : decode cX1_reached 25 = .ok (.ireturn, 1) := dk_172 (dk_at dksX1_reached_1 3 rfl rfl)
abbrev cX1_reachedAgain : ByteArray := prog_1_method_23_code
def yX1_reachedAgain : MethodName := ⟨RX1, "reachedAgain", "(II)I"⟩
def dkwX1_reachedAgain_1 : List UInt8 := [172]
abbrev dktX1_reachedAgain_1 : List UInt8 := dkwX1_reachedAgain_1 ++ []
def dkwX1_reachedAgain_0 : List UInt8 := [27, 184, 0, 179, 62, 28, 3, 16, 20, 184, 0, 117, 184, 0, 121, 42, 180, 0, 27, 29, 28, 182, 0, 236]
abbrev dktX1_reachedAgain_0 : List UInt8 := dkwX1_reachedAgain_0 ++ dktX1_reachedAgain_1
theorem dksX1_reachedAgain_0 : cX1_reachedAgain.data.toList.drop 0 = dktX1_reachedAgain_0 := by decide +kernel
theorem dksX1_reachedAgain_1 : cX1_reachedAgain.data.toList.drop 24 = dktX1_reachedAgain_1 := dk_seg dksX1_reachedAgain_0 24 rfl rfl
theorem dX1_reachedAgain_0 : decode cX1_reachedAgain 0 = .ok (.iload_n 1, 1) := dk_27 (dk_at dksX1_reachedAgain_0 0 rfl rfl)
theorem dX1_reachedAgain_1 : decode cX1_reachedAgain 1 = .ok (.invokestatic 179, 3) := dk_184 0 179 (dk_at dksX1_reachedAgain_0 1 rfl rfl)
theorem dX1_reachedAgain_4 : decode cX1_reachedAgain 4 = .ok (.istore_n 3, 1) := dk_62 (dk_at dksX1_reachedAgain_0 4 rfl rfl)
theorem dX1_reachedAgain_5 : decode cX1_reachedAgain 5 = .ok (.iload_n 2, 1) := dk_28 (dk_at dksX1_reachedAgain_0 5 rfl rfl)
theorem dX1_reachedAgain_6 : decode cX1_reachedAgain 6 = .ok (.iconst 0, 1) := dk_3 (dk_at dksX1_reachedAgain_0 6 rfl rfl)
theorem dX1_reachedAgain_7 : decode cX1_reachedAgain 7 = .ok (.bipush 20, 2) := dk_16 20 (dk_at dksX1_reachedAgain_0 7 rfl rfl)
theorem dX1_reachedAgain_9 : decode cX1_reachedAgain 9 = .ok (.invokestatic 117, 3) := dk_184 0 117 (dk_at dksX1_reachedAgain_0 9 rfl rfl)
theorem dX1_reachedAgain_12 : decode cX1_reachedAgain 12 = .ok (.invokestatic 121, 3) := dk_184 0 121 (dk_at dksX1_reachedAgain_0 12 rfl rfl)
theorem dX1_reachedAgain_15 : decode cX1_reachedAgain 15 = .ok (.aload_n 0, 1) := dk_42 (dk_at dksX1_reachedAgain_0 15 rfl rfl)
theorem dX1_reachedAgain_16 : decode cX1_reachedAgain 16 = .ok (.getfield 27, 3) := dk_180 0 27 (dk_at dksX1_reachedAgain_0 16 rfl rfl)
theorem dX1_reachedAgain_19 : decode cX1_reachedAgain 19 = .ok (.iload_n 3, 1) := dk_29 (dk_at dksX1_reachedAgain_0 19 rfl rfl)
theorem dX1_reachedAgain_20 : decode cX1_reachedAgain 20 = .ok (.iload_n 2, 1) := dk_28 (dk_at dksX1_reachedAgain_0 20 rfl rfl)
theorem dX1_reachedAgain_21 : decode cX1_reachedAgain 21 = .ok (.invokevirtual 236, 3) := dk_182 0 236 (dk_at dksX1_reachedAgain_0 21 rfl rfl)
theorem dX1_reachedAgain_24 : decode cX1_reachedAgain 24 = .ok (.ireturn, 1) := dk_172 (dk_at dksX1_reachedAgain_1 0 rfl rfl)
abbrev cX1_richest : ByteArray := prog_1_method_24_code
def yX1_richest : MethodName := ⟨RX1, "richest", "()I"⟩
def dkwX1_richest_2 : List UInt8 := [180, 0, 182, 27, 46, 158, 0, 7, 4, 167, 0, 4, 3, 184, 0, 164, 27, 172]
abbrev dktX1_richest_2 : List UInt8 := dkwX1_richest_2 ++ []
def dkwX1_richest_1 : List UInt8 := [180, 0, 182, 27, 46, 164, 0, 7, 28, 167, 0, 4, 27, 60, 132, 2, 1, 167, 255, 220, 42, 180, 0, 27]
abbrev dktX1_richest_1 : List UInt8 := dkwX1_richest_1 ++ dktX1_richest_2
def dkwX1_richest_0 : List UInt8 := [3, 60, 4, 61, 28, 16, 9, 162, 0, 36, 42, 180, 0, 27, 180, 0, 182, 28, 46, 42, 180, 0, 27]
abbrev dktX1_richest_0 : List UInt8 := dkwX1_richest_0 ++ dktX1_richest_1
theorem dksX1_richest_0 : cX1_richest.data.toList.drop 0 = dktX1_richest_0 := by decide +kernel
theorem dksX1_richest_1 : cX1_richest.data.toList.drop 23 = dktX1_richest_1 := dk_seg dksX1_richest_0 23 rfl rfl
theorem dksX1_richest_2 : cX1_richest.data.toList.drop 47 = dktX1_richest_2 := dk_seg dksX1_richest_1 24 rfl rfl
theorem dX1_richest_0 : decode cX1_richest 0 = .ok (.iconst 0, 1) := dk_3 (dk_at dksX1_richest_0 0 rfl rfl)
theorem dX1_richest_1 : decode cX1_richest 1 = .ok (.istore_n 1, 1) := dk_60 (dk_at dksX1_richest_0 1 rfl rfl)
theorem dX1_richest_2 : decode cX1_richest 2 = .ok (.iconst 1, 1) := dk_4 (dk_at dksX1_richest_0 2 rfl rfl)
theorem dX1_richest_3 : decode cX1_richest 3 = .ok (.istore_n 2, 1) := dk_61 (dk_at dksX1_richest_0 3 rfl rfl)
theorem dX1_richest_4 : decode cX1_richest 4 = .ok (.iload_n 2, 1) := dk_28 (dk_at dksX1_richest_0 4 rfl rfl)
theorem dX1_richest_5 : decode cX1_richest 5 = .ok (.bipush 9, 2) := dk_16 9 (dk_at dksX1_richest_0 5 rfl rfl)
theorem dX1_richest_7 : decode cX1_richest 7 = .ok (.if_icmp .ge 36, 3) := dk_162 0 36 (dk_at dksX1_richest_0 7 rfl rfl)
theorem dX1_richest_10 : decode cX1_richest 10 = .ok (.aload_n 0, 1) := dk_42 (dk_at dksX1_richest_0 10 rfl rfl)
theorem dX1_richest_11 : decode cX1_richest 11 = .ok (.getfield 27, 3) := dk_180 0 27 (dk_at dksX1_richest_0 11 rfl rfl)
theorem dX1_richest_14 : decode cX1_richest 14 = .ok (.getfield 182, 3) := dk_180 0 182 (dk_at dksX1_richest_0 14 rfl rfl)
theorem dX1_richest_17 : decode cX1_richest 17 = .ok (.iload_n 2, 1) := dk_28 (dk_at dksX1_richest_0 17 rfl rfl)
theorem dX1_richest_18 : decode cX1_richest 18 = .ok (.iaload, 1) := dk_46 (dk_at dksX1_richest_0 18 rfl rfl)
theorem dX1_richest_19 : decode cX1_richest 19 = .ok (.aload_n 0, 1) := dk_42 (dk_at dksX1_richest_0 19 rfl rfl)
theorem dX1_richest_20 : decode cX1_richest 20 = .ok (.getfield 27, 3) := dk_180 0 27 (dk_at dksX1_richest_0 20 rfl rfl)
theorem dX1_richest_23 : decode cX1_richest 23 = .ok (.getfield 182, 3) := dk_180 0 182 (dk_at dksX1_richest_1 0 rfl rfl)
theorem dX1_richest_26 : decode cX1_richest 26 = .ok (.iload_n 1, 1) := dk_27 (dk_at dksX1_richest_1 3 rfl rfl)
theorem dX1_richest_27 : decode cX1_richest 27 = .ok (.iaload, 1) := dk_46 (dk_at dksX1_richest_1 4 rfl rfl)
theorem dX1_richest_28 : decode cX1_richest 28 = .ok (.if_icmp .le 7, 3) := dk_164 0 7 (dk_at dksX1_richest_1 5 rfl rfl)
theorem dX1_richest_31 : decode cX1_richest 31 = .ok (.iload_n 2, 1) := dk_28 (dk_at dksX1_richest_1 8 rfl rfl)
theorem dX1_richest_32 : decode cX1_richest 32 = .ok (.goto 4, 3) := dk_167 0 4 (dk_at dksX1_richest_1 9 rfl rfl)
theorem dX1_richest_35 : decode cX1_richest 35 = .ok (.iload_n 1, 1) := dk_27 (dk_at dksX1_richest_1 12 rfl rfl)
theorem dX1_richest_36 : decode cX1_richest 36 = .ok (.istore_n 1, 1) := dk_60 (dk_at dksX1_richest_1 13 rfl rfl)
theorem dX1_richest_37 : decode cX1_richest 37 = .ok (.iinc 2 1, 3) := dk_132 2 1 (dk_at dksX1_richest_1 14 rfl rfl)
theorem dX1_richest_40 : decode cX1_richest 40 = .ok (.goto (-36), 3) := dk_167 255 220 (dk_at dksX1_richest_1 17 rfl rfl)
theorem dX1_richest_43 : decode cX1_richest 43 = .ok (.aload_n 0, 1) := dk_42 (dk_at dksX1_richest_1 20 rfl rfl)
theorem dX1_richest_44 : decode cX1_richest 44 = .ok (.getfield 27, 3) := dk_180 0 27 (dk_at dksX1_richest_1 21 rfl rfl)
theorem dX1_richest_47 : decode cX1_richest 47 = .ok (.getfield 182, 3) := dk_180 0 182 (dk_at dksX1_richest_2 0 rfl rfl)
theorem dX1_richest_50 : decode cX1_richest 50 = .ok (.iload_n 1, 1) := dk_27 (dk_at dksX1_richest_2 3 rfl rfl)
theorem dX1_richest_51 : decode cX1_richest 51 = .ok (.iaload, 1) := dk_46 (dk_at dksX1_richest_2 4 rfl rfl)
theorem dX1_richest_52 : decode cX1_richest 52 = .ok (.ifCond .le 7, 3) := dk_158 0 7 (dk_at dksX1_richest_2 5 rfl rfl)
theorem dX1_richest_55 : decode cX1_richest 55 = .ok (.iconst 1, 1) := dk_4 (dk_at dksX1_richest_2 8 rfl rfl)
theorem dX1_richest_56 : decode cX1_richest 56 = .ok (.goto 4, 3) := dk_167 0 4 (dk_at dksX1_richest_2 9 rfl rfl)
theorem dX1_richest_59 : decode cX1_richest 59 = .ok (.iconst 0, 1) := dk_3 (dk_at dksX1_richest_2 12 rfl rfl)
theorem dX1_richest_60 : decode cX1_richest 60 = .ok (.invokestatic 164, 3) := dk_184 0 164 (dk_at dksX1_richest_2 13 rfl rfl)
theorem dX1_richest_63 : decode cX1_richest 63 = .ok (.iload_n 1, 1) := dk_27 (dk_at dksX1_richest_2 16 rfl rfl)
theorem dX1_richest_64 : decode cX1_richest 64 = .ok (.ireturn, 1) := dk_172 (dk_at dksX1_richest_2 17 rfl rfl)
abbrev cX1_keeper : ByteArray := prog_1_method_25_code
def yX1_keeper : MethodName := ⟨RX1, "keeper", "()I"⟩
def dkwX1_keeper_0 : List UInt8 := [42, 186, 0, 239, 0, 0, 182, 0, 99, 172]
abbrev dktX1_keeper_0 : List UInt8 := dkwX1_keeper_0 ++ []
theorem dksX1_keeper_0 : cX1_keeper.data.toList.drop 0 = dktX1_keeper_0 := by decide +kernel
theorem dX1_keeper_0 : decode cX1_keeper 0 = .ok (.aload_n 0, 1) := dk_42 (dk_at dksX1_keeper_0 0 rfl rfl)
theorem dX1_keeper_1 : decode cX1_keeper 1 = .ok (.invokedynamic 239, 5) := by decide +kernel
theorem dX1_keeper_6 : decode cX1_keeper 6 = .ok (.invokevirtual 99, 3) := dk_182 0 99 (dk_at dksX1_keeper_0 6 rfl rfl)
theorem dX1_keeper_9 : decode cX1_keeper 9 = .ok (.ireturn, 1) := dk_172 (dk_at dksX1_keeper_0 9 rfl rfl)
abbrev cX1_lambda_keeper_4 : ByteArray := prog_1_method_63_code
def yX1_lambda_keeper_4 : MethodName := ⟨RX1, "lambda$keeper$4", "(LPeacockLawns$Garden;)I"⟩
def dkwX1_lambda_keeper_4_0 : List UInt8 := [42, 180, 0, 213, 187, 0, 216, 89, 183, 1, 182, 6, 184, 1, 166, 172]
abbrev dktX1_lambda_keeper_4_0 : List UInt8 := dkwX1_lambda_keeper_4_0 ++ []
theorem dksX1_lambda_keeper_4_0 : cX1_lambda_keeper_4.data.toList.drop 0 = dktX1_lambda_keeper_4_0 := by decide +kernel
theorem dX1_lambda_keeper_4_0 : decode cX1_lambda_keeper_4 0 = .ok (.aload_n 0, 1) := dk_42 (dk_at dksX1_lambda_keeper_4_0 0 rfl rfl)
theorem dX1_lambda_keeper_4_1 : decode cX1_lambda_keeper_4 1 = .ok (.getfield 213, 3) := dk_180 0 213 (dk_at dksX1_lambda_keeper_4_0 1 rfl rfl)
theorem dX1_lambda_keeper_4_4 : decode cX1_lambda_keeper_4 4 = .ok (.new 216, 3) := dk_187 0 216 (dk_at dksX1_lambda_keeper_4_0 4 rfl rfl)
theorem dX1_lambda_keeper_4_7 : decode cX1_lambda_keeper_4 7 = .ok (.dup, 1) := dk_89 (dk_at dksX1_lambda_keeper_4_0 7 rfl rfl)
theorem dX1_lambda_keeper_4_8 : decode cX1_lambda_keeper_4 8 = .ok (.invokespecial 438, 3) := dk_183 1 182 (dk_at dksX1_lambda_keeper_4_0 8 rfl rfl)
theorem dX1_lambda_keeper_4_11 : decode cX1_lambda_keeper_4 11 = .ok (.iconst 3, 1) := dk_6 (dk_at dksX1_lambda_keeper_4_0 11 rfl rfl)
theorem dX1_lambda_keeper_4_12 : decode cX1_lambda_keeper_4 12 = .ok (.invokestatic 422, 3) := dk_184 1 166 (dk_at dksX1_lambda_keeper_4_0 12 rfl rfl)
theorem dX1_lambda_keeper_4_15 : decode cX1_lambda_keeper_4 15 = .ok (.ireturn, 1) := dk_172 (dk_at dksX1_lambda_keeper_4_0 15 rfl rfl)
abbrev cX1_keeperOf : ByteArray := prog_1_method_26_code
def yX1_keeperOf : MethodName := ⟨RX1, "keeperOf", "(II)I"⟩
def dkwX1_keeperOf_2 : List UInt8 := [5, 160, 0, 10, 45, 180, 0, 245, 167, 0, 7, 45, 180, 0, 248, 172]
abbrev dktX1_keeperOf_2 : List UInt8 := dkwX1_keeperOf_2 ++ []
def dkwX1_keeperOf_1 : List UInt8 := [28, 154, 0, 10, 45, 180, 0, 218, 167, 0, 31, 28, 4, 160, 0, 10, 45, 180, 0, 242, 167, 0, 19, 28]
abbrev dktX1_keeperOf_1 : List UInt8 := dkwX1_keeperOf_1 ++ dktX1_keeperOf_2
def dkwX1_keeperOf_0 : List UInt8 := [42, 180, 0, 27, 180, 0, 213, 27, 184, 0, 111, 192, 0, 216, 78, 28, 3, 6, 184, 0, 117, 184, 0, 121]
abbrev dktX1_keeperOf_0 : List UInt8 := dkwX1_keeperOf_0 ++ dktX1_keeperOf_1
theorem dksX1_keeperOf_0 : cX1_keeperOf.data.toList.drop 0 = dktX1_keeperOf_0 := by decide +kernel
theorem dksX1_keeperOf_1 : cX1_keeperOf.data.toList.drop 24 = dktX1_keeperOf_1 := dk_seg dksX1_keeperOf_0 24 rfl rfl
theorem dksX1_keeperOf_2 : cX1_keeperOf.data.toList.drop 48 = dktX1_keeperOf_2 := dk_seg dksX1_keeperOf_1 24 rfl rfl
theorem dX1_keeperOf_0 : decode cX1_keeperOf 0 = .ok (.aload_n 0, 1) := dk_42 (dk_at dksX1_keeperOf_0 0 rfl rfl)
theorem dX1_keeperOf_1 : decode cX1_keeperOf 1 = .ok (.getfield 27, 3) := dk_180 0 27 (dk_at dksX1_keeperOf_0 1 rfl rfl)
theorem dX1_keeperOf_4 : decode cX1_keeperOf 4 = .ok (.getfield 213, 3) := dk_180 0 213 (dk_at dksX1_keeperOf_0 4 rfl rfl)
theorem dX1_keeperOf_7 : decode cX1_keeperOf 7 = .ok (.iload_n 1, 1) := dk_27 (dk_at dksX1_keeperOf_0 7 rfl rfl)
theorem dX1_keeperOf_8 : decode cX1_keeperOf 8 = .ok (.invokestatic 111, 3) := dk_184 0 111 (dk_at dksX1_keeperOf_0 8 rfl rfl)
theorem dX1_keeperOf_11 : decode cX1_keeperOf 11 = .ok (.checkcast 216, 3) := dk_192 0 216 (dk_at dksX1_keeperOf_0 11 rfl rfl)
theorem dX1_keeperOf_14 : decode cX1_keeperOf 14 = .ok (.astore_n 3, 1) := dk_78 (dk_at dksX1_keeperOf_0 14 rfl rfl)
theorem dX1_keeperOf_15 : decode cX1_keeperOf 15 = .ok (.iload_n 2, 1) := dk_28 (dk_at dksX1_keeperOf_0 15 rfl rfl)
theorem dX1_keeperOf_16 : decode cX1_keeperOf 16 = .ok (.iconst 0, 1) := dk_3 (dk_at dksX1_keeperOf_0 16 rfl rfl)
theorem dX1_keeperOf_17 : decode cX1_keeperOf 17 = .ok (.iconst 3, 1) := dk_6 (dk_at dksX1_keeperOf_0 17 rfl rfl)
theorem dX1_keeperOf_18 : decode cX1_keeperOf 18 = .ok (.invokestatic 117, 3) := dk_184 0 117 (dk_at dksX1_keeperOf_0 18 rfl rfl)
theorem dX1_keeperOf_21 : decode cX1_keeperOf 21 = .ok (.invokestatic 121, 3) := dk_184 0 121 (dk_at dksX1_keeperOf_0 21 rfl rfl)
theorem dX1_keeperOf_24 : decode cX1_keeperOf 24 = .ok (.iload_n 2, 1) := dk_28 (dk_at dksX1_keeperOf_1 0 rfl rfl)
theorem dX1_keeperOf_25 : decode cX1_keeperOf 25 = .ok (.ifCond .ne 10, 3) := dk_154 0 10 (dk_at dksX1_keeperOf_1 1 rfl rfl)
theorem dX1_keeperOf_28 : decode cX1_keeperOf 28 = .ok (.aload_n 3, 1) := dk_45 (dk_at dksX1_keeperOf_1 4 rfl rfl)
theorem dX1_keeperOf_29 : decode cX1_keeperOf 29 = .ok (.getfield 218, 3) := dk_180 0 218 (dk_at dksX1_keeperOf_1 5 rfl rfl)
theorem dX1_keeperOf_32 : decode cX1_keeperOf 32 = .ok (.goto 31, 3) := dk_167 0 31 (dk_at dksX1_keeperOf_1 8 rfl rfl)
theorem dX1_keeperOf_35 : decode cX1_keeperOf 35 = .ok (.iload_n 2, 1) := dk_28 (dk_at dksX1_keeperOf_1 11 rfl rfl)
theorem dX1_keeperOf_36 : decode cX1_keeperOf 36 = .ok (.iconst 1, 1) := dk_4 (dk_at dksX1_keeperOf_1 12 rfl rfl)
theorem dX1_keeperOf_37 : decode cX1_keeperOf 37 = .ok (.if_icmp .ne 10, 3) := dk_160 0 10 (dk_at dksX1_keeperOf_1 13 rfl rfl)
theorem dX1_keeperOf_40 : decode cX1_keeperOf 40 = .ok (.aload_n 3, 1) := dk_45 (dk_at dksX1_keeperOf_1 16 rfl rfl)
theorem dX1_keeperOf_41 : decode cX1_keeperOf 41 = .ok (.getfield 242, 3) := dk_180 0 242 (dk_at dksX1_keeperOf_1 17 rfl rfl)
theorem dX1_keeperOf_44 : decode cX1_keeperOf 44 = .ok (.goto 19, 3) := dk_167 0 19 (dk_at dksX1_keeperOf_1 20 rfl rfl)
theorem dX1_keeperOf_47 : decode cX1_keeperOf 47 = .ok (.iload_n 2, 1) := dk_28 (dk_at dksX1_keeperOf_1 23 rfl rfl)
theorem dX1_keeperOf_48 : decode cX1_keeperOf 48 = .ok (.iconst 2, 1) := dk_5 (dk_at dksX1_keeperOf_2 0 rfl rfl)
theorem dX1_keeperOf_49 : decode cX1_keeperOf 49 = .ok (.if_icmp .ne 10, 3) := dk_160 0 10 (dk_at dksX1_keeperOf_2 1 rfl rfl)
theorem dX1_keeperOf_52 : decode cX1_keeperOf 52 = .ok (.aload_n 3, 1) := dk_45 (dk_at dksX1_keeperOf_2 4 rfl rfl)
theorem dX1_keeperOf_53 : decode cX1_keeperOf 53 = .ok (.getfield 245, 3) := dk_180 0 245 (dk_at dksX1_keeperOf_2 5 rfl rfl)
theorem dX1_keeperOf_56 : decode cX1_keeperOf 56 = .ok (.goto 7, 3) := dk_167 0 7 (dk_at dksX1_keeperOf_2 8 rfl rfl)
theorem dX1_keeperOf_59 : decode cX1_keeperOf 59 = .ok (.aload_n 3, 1) := dk_45 (dk_at dksX1_keeperOf_2 11 rfl rfl)
theorem dX1_keeperOf_60 : decode cX1_keeperOf 60 = .ok (.getfield 248, 3) := dk_180 0 248 (dk_at dksX1_keeperOf_2 12 rfl rfl)
theorem dX1_keeperOf_63 : decode cX1_keeperOf 63 = .ok (.ireturn, 1) := dk_172 (dk_at dksX1_keeperOf_2 15 rfl rfl)
abbrev cX1_walk : ByteArray := prog_1_method_27_code
def yX1_walk : MethodName := ⟨RX1, "walk", "(II)I"⟩
def dkwX1_walk_0 : List UInt8 := [42, 27, 28, 186, 0, 251, 0, 0, 182, 0, 99, 172]
abbrev dktX1_walk_0 : List UInt8 := dkwX1_walk_0 ++ []
theorem dksX1_walk_0 : cX1_walk.data.toList.drop 0 = dktX1_walk_0 := by decide +kernel
theorem dX1_walk_0 : decode cX1_walk 0 = .ok (.aload_n 0, 1) := dk_42 (dk_at dksX1_walk_0 0 rfl rfl)
theorem dX1_walk_1 : decode cX1_walk 1 = .ok (.iload_n 1, 1) := dk_27 (dk_at dksX1_walk_0 1 rfl rfl)
theorem dX1_walk_2 : decode cX1_walk 2 = .ok (.iload_n 2, 1) := dk_28 (dk_at dksX1_walk_0 2 rfl rfl)
theorem dX1_walk_3 : decode cX1_walk 3 = .ok (.invokedynamic 251, 5) := by decide +kernel
theorem dX1_walk_8 : decode cX1_walk 8 = .ok (.invokevirtual 99, 3) := dk_182 0 99 (dk_at dksX1_walk_0 8 rfl rfl)
theorem dX1_walk_11 : decode cX1_walk 11 = .ok (.ireturn, 1) := dk_172 (dk_at dksX1_walk_0 11 rfl rfl)
abbrev cX1_lambda_walk_5 : ByteArray := prog_1_method_62_code
def yX1_lambda_walk_5 : MethodName := ⟨RX1, "lambda$walk$5", "(IILPeacockLawns$Garden;)I"⟩
def dkwX1_lambda_walk_5_0 : List UInt8 := [44, 26, 27, 182, 1, 179, 172]
abbrev dktX1_lambda_walk_5_0 : List UInt8 := dkwX1_lambda_walk_5_0 ++ []
theorem dksX1_lambda_walk_5_0 : cX1_lambda_walk_5.data.toList.drop 0 = dktX1_lambda_walk_5_0 := by decide +kernel
theorem dX1_lambda_walk_5_0 : decode cX1_lambda_walk_5 0 = .ok (.aload_n 2, 1) := dk_44 (dk_at dksX1_lambda_walk_5_0 0 rfl rfl)
theorem dX1_lambda_walk_5_1 : decode cX1_lambda_walk_5 1 = .ok (.iload_n 0, 1) := dk_26 (dk_at dksX1_lambda_walk_5_0 1 rfl rfl)
theorem dX1_lambda_walk_5_2 : decode cX1_lambda_walk_5 2 = .ok (.iload_n 1, 1) := dk_27 (dk_at dksX1_lambda_walk_5_0 2 rfl rfl)
theorem dX1_lambda_walk_5_3 : decode cX1_lambda_walk_5 3 = .ok (.invokevirtual 435, 3) := dk_182 1 179 (dk_at dksX1_lambda_walk_5_0 3 rfl rfl)
theorem dX1_lambda_walk_5_6 : decode cX1_lambda_walk_5 6 = .ok (.ireturn, 1) := dk_172 (dk_at dksX1_lambda_walk_5_0 6 rfl rfl)
abbrev cX1_shear : ByteArray := prog_1_method_28_code
def yX1_shear : MethodName := ⟨RX1, "shear", "(III)I"⟩
def dkwX1_shear_0 : List UInt8 := [42, 27, 28, 29, 186, 0, 254, 0, 0, 182, 0, 99, 172]
abbrev dktX1_shear_0 : List UInt8 := dkwX1_shear_0 ++ []
theorem dksX1_shear_0 : cX1_shear.data.toList.drop 0 = dktX1_shear_0 := by decide +kernel
theorem dX1_shear_0 : decode cX1_shear 0 = .ok (.aload_n 0, 1) := dk_42 (dk_at dksX1_shear_0 0 rfl rfl)
theorem dX1_shear_1 : decode cX1_shear 1 = .ok (.iload_n 1, 1) := dk_27 (dk_at dksX1_shear_0 1 rfl rfl)
theorem dX1_shear_2 : decode cX1_shear 2 = .ok (.iload_n 2, 1) := dk_28 (dk_at dksX1_shear_0 2 rfl rfl)
theorem dX1_shear_3 : decode cX1_shear 3 = .ok (.iload_n 3, 1) := dk_29 (dk_at dksX1_shear_0 3 rfl rfl)
theorem dX1_shear_4 : decode cX1_shear 4 = .ok (.invokedynamic 254, 5) := by decide +kernel
theorem dX1_shear_9 : decode cX1_shear 9 = .ok (.invokevirtual 99, 3) := dk_182 0 99 (dk_at dksX1_shear_0 9 rfl rfl)
theorem dX1_shear_12 : decode cX1_shear 12 = .ok (.ireturn, 1) := dk_172 (dk_at dksX1_shear_0 12 rfl rfl)
abbrev cX1_lambda_shear_6 : ByteArray := prog_1_method_61_code
def yX1_lambda_shear_6 : MethodName := ⟨RX1, "lambda$shear$6", "(IIILPeacockLawns$Garden;)I"⟩
def dkwX1_lambda_shear_6_0 : List UInt8 := [45, 26, 27, 28, 182, 1, 176, 172]
abbrev dktX1_lambda_shear_6_0 : List UInt8 := dkwX1_lambda_shear_6_0 ++ []
theorem dksX1_lambda_shear_6_0 : cX1_lambda_shear_6.data.toList.drop 0 = dktX1_lambda_shear_6_0 := by decide +kernel
theorem dX1_lambda_shear_6_0 : decode cX1_lambda_shear_6 0 = .ok (.aload_n 3, 1) := dk_45 (dk_at dksX1_lambda_shear_6_0 0 rfl rfl)
theorem dX1_lambda_shear_6_1 : decode cX1_lambda_shear_6 1 = .ok (.iload_n 0, 1) := dk_26 (dk_at dksX1_lambda_shear_6_0 1 rfl rfl)
theorem dX1_lambda_shear_6_2 : decode cX1_lambda_shear_6 2 = .ok (.iload_n 1, 1) := dk_27 (dk_at dksX1_lambda_shear_6_0 2 rfl rfl)
theorem dX1_lambda_shear_6_3 : decode cX1_lambda_shear_6 3 = .ok (.iload_n 2, 1) := dk_28 (dk_at dksX1_lambda_shear_6_0 3 rfl rfl)
theorem dX1_lambda_shear_6_4 : decode cX1_lambda_shear_6 4 = .ok (.invokevirtual 432, 3) := dk_182 1 176 (dk_at dksX1_lambda_shear_6_0 4 rfl rfl)
theorem dX1_lambda_shear_6_7 : decode cX1_lambda_shear_6 7 = .ok (.ireturn, 1) := dk_172 (dk_at dksX1_lambda_shear_6_0 7 rfl rfl)
abbrev cX1_find : ByteArray := prog_1_method_29_code
def yX1_find : MethodName := ⟨RX1, "find", "(I)I"⟩
def dkwX1_find_0 : List UInt8 := [42, 27, 186, 0, 255, 0, 0, 182, 0, 99, 172]
abbrev dktX1_find_0 : List UInt8 := dkwX1_find_0 ++ []
theorem dksX1_find_0 : cX1_find.data.toList.drop 0 = dktX1_find_0 := by decide +kernel
theorem dX1_find_0 : decode cX1_find 0 = .ok (.aload_n 0, 1) := dk_42 (dk_at dksX1_find_0 0 rfl rfl)
theorem dX1_find_1 : decode cX1_find 1 = .ok (.iload_n 1, 1) := dk_27 (dk_at dksX1_find_0 1 rfl rfl)
theorem dX1_find_2 : decode cX1_find 2 = .ok (.invokedynamic 255, 5) := by decide +kernel
theorem dX1_find_7 : decode cX1_find 7 = .ok (.invokevirtual 99, 3) := dk_182 0 99 (dk_at dksX1_find_0 7 rfl rfl)
theorem dX1_find_10 : decode cX1_find 10 = .ok (.ireturn, 1) := dk_172 (dk_at dksX1_find_0 10 rfl rfl)
abbrev cX1_lambda_find_7 : ByteArray := prog_1_method_60_code
def yX1_lambda_find_7 : MethodName := ⟨RX1, "lambda$find$7", "(ILPeacockLawns$Garden;)I"⟩
def dkwX1_lambda_find_7_0 : List UInt8 := [43, 26, 182, 1, 173, 172]
abbrev dktX1_lambda_find_7_0 : List UInt8 := dkwX1_lambda_find_7_0 ++ []
theorem dksX1_lambda_find_7_0 : cX1_lambda_find_7.data.toList.drop 0 = dktX1_lambda_find_7_0 := by decide +kernel
theorem dX1_lambda_find_7_0 : decode cX1_lambda_find_7 0 = .ok (.aload_n 1, 1) := dk_43 (dk_at dksX1_lambda_find_7_0 0 rfl rfl)
theorem dX1_lambda_find_7_1 : decode cX1_lambda_find_7 1 = .ok (.iload_n 0, 1) := dk_26 (dk_at dksX1_lambda_find_7_0 1 rfl rfl)
theorem dX1_lambda_find_7_2 : decode cX1_lambda_find_7 2 = .ok (.invokevirtual 429, 3) := dk_182 1 173 (dk_at dksX1_lambda_find_7_0 2 rfl rfl)
theorem dX1_lambda_find_7_5 : decode cX1_lambda_find_7 5 = .ok (.ireturn, 1) := dk_172 (dk_at dksX1_lambda_find_7_0 5 rfl rfl)
abbrev cX1_sell : ByteArray := prog_1_method_30_code
def yX1_sell : MethodName := ⟨RX1, "sell", "(I)I"⟩
def dkwX1_sell_0 : List UInt8 := [42, 27, 186, 1, 0, 0, 0, 182, 0, 99, 172]
abbrev dktX1_sell_0 : List UInt8 := dkwX1_sell_0 ++ []
theorem dksX1_sell_0 : cX1_sell.data.toList.drop 0 = dktX1_sell_0 := by decide +kernel
theorem dX1_sell_0 : decode cX1_sell 0 = .ok (.aload_n 0, 1) := dk_42 (dk_at dksX1_sell_0 0 rfl rfl)
theorem dX1_sell_1 : decode cX1_sell 1 = .ok (.iload_n 1, 1) := dk_27 (dk_at dksX1_sell_0 1 rfl rfl)
theorem dX1_sell_2 : decode cX1_sell 2 = .ok (.invokedynamic 256, 5) := by decide +kernel
theorem dX1_sell_7 : decode cX1_sell 7 = .ok (.invokevirtual 99, 3) := dk_182 0 99 (dk_at dksX1_sell_0 7 rfl rfl)
theorem dX1_sell_10 : decode cX1_sell 10 = .ok (.ireturn, 1) := dk_172 (dk_at dksX1_sell_0 10 rfl rfl)
abbrev cX1_lambda_sell_8 : ByteArray := prog_1_method_59_code
def yX1_lambda_sell_8 : MethodName := ⟨RX1, "lambda$sell$8", "(ILPeacockLawns$Garden;)I"⟩
def dkwX1_lambda_sell_8_0 : List UInt8 := [43, 26, 182, 1, 170, 172]
abbrev dktX1_lambda_sell_8_0 : List UInt8 := dkwX1_lambda_sell_8_0 ++ []
theorem dksX1_lambda_sell_8_0 : cX1_lambda_sell_8.data.toList.drop 0 = dktX1_lambda_sell_8_0 := by decide +kernel
theorem dX1_lambda_sell_8_0 : decode cX1_lambda_sell_8 0 = .ok (.aload_n 1, 1) := dk_43 (dk_at dksX1_lambda_sell_8_0 0 rfl rfl)
theorem dX1_lambda_sell_8_1 : decode cX1_lambda_sell_8 1 = .ok (.iload_n 0, 1) := dk_26 (dk_at dksX1_lambda_sell_8_0 1 rfl rfl)
theorem dX1_lambda_sell_8_2 : decode cX1_lambda_sell_8 2 = .ok (.invokevirtual 426, 3) := dk_182 1 170 (dk_at dksX1_lambda_sell_8_0 2 rfl rfl)
theorem dX1_lambda_sell_8_5 : decode cX1_lambda_sell_8 5 = .ok (.ireturn, 1) := dk_172 (dk_at dksX1_lambda_sell_8_0 5 rfl rfl)
abbrev cX1_bench : ByteArray := prog_1_method_31_code
def yX1_bench : MethodName := ⟨RX1, "bench", "(I)I"⟩
def dkwX1_bench_0 : List UInt8 := [42, 27, 186, 1, 1, 0, 0, 182, 0, 99, 172]
abbrev dktX1_bench_0 : List UInt8 := dkwX1_bench_0 ++ []
theorem dksX1_bench_0 : cX1_bench.data.toList.drop 0 = dktX1_bench_0 := by decide +kernel
theorem dX1_bench_0 : decode cX1_bench 0 = .ok (.aload_n 0, 1) := dk_42 (dk_at dksX1_bench_0 0 rfl rfl)
theorem dX1_bench_1 : decode cX1_bench 1 = .ok (.iload_n 1, 1) := dk_27 (dk_at dksX1_bench_0 1 rfl rfl)
theorem dX1_bench_2 : decode cX1_bench 2 = .ok (.invokedynamic 257, 5) := by decide +kernel
theorem dX1_bench_7 : decode cX1_bench 7 = .ok (.invokevirtual 99, 3) := dk_182 0 99 (dk_at dksX1_bench_0 7 rfl rfl)
theorem dX1_bench_10 : decode cX1_bench 10 = .ok (.ireturn, 1) := dk_172 (dk_at dksX1_bench_0 10 rfl rfl)
abbrev cX1_lambda_bench_9 : ByteArray := prog_1_method_58_code
def yX1_lambda_bench_9 : MethodName := ⟨RX1, "lambda$bench$9", "(ILPeacockLawns$Garden;)I"⟩
def dkwX1_lambda_bench_9_0 : List UInt8 := [43, 180, 0, 194, 187, 0, 210, 89, 26, 184, 0, 179, 183, 1, 164, 7, 184, 1, 166, 172]
abbrev dktX1_lambda_bench_9_0 : List UInt8 := dkwX1_lambda_bench_9_0 ++ []
theorem dksX1_lambda_bench_9_0 : cX1_lambda_bench_9.data.toList.drop 0 = dktX1_lambda_bench_9_0 := by decide +kernel
theorem dX1_lambda_bench_9_0 : decode cX1_lambda_bench_9 0 = .ok (.aload_n 1, 1) := dk_43 (dk_at dksX1_lambda_bench_9_0 0 rfl rfl)
theorem dX1_lambda_bench_9_1 : decode cX1_lambda_bench_9 1 = .ok (.getfield 194, 3) := dk_180 0 194 (dk_at dksX1_lambda_bench_9_0 1 rfl rfl)
theorem dX1_lambda_bench_9_4 : decode cX1_lambda_bench_9 4 = .ok (.new 210, 3) := dk_187 0 210 (dk_at dksX1_lambda_bench_9_0 4 rfl rfl)
theorem dX1_lambda_bench_9_7 : decode cX1_lambda_bench_9 7 = .ok (.dup, 1) := dk_89 (dk_at dksX1_lambda_bench_9_0 7 rfl rfl)
theorem dX1_lambda_bench_9_8 : decode cX1_lambda_bench_9 8 = .ok (.iload_n 0, 1) := dk_26 (dk_at dksX1_lambda_bench_9_0 8 rfl rfl)
theorem dX1_lambda_bench_9_9 : decode cX1_lambda_bench_9 9 = .ok (.invokestatic 179, 3) := dk_184 0 179 (dk_at dksX1_lambda_bench_9_0 9 rfl rfl)
theorem dX1_lambda_bench_9_12 : decode cX1_lambda_bench_9 12 = .ok (.invokespecial 420, 3) := dk_183 1 164 (dk_at dksX1_lambda_bench_9_0 12 rfl rfl)
theorem dX1_lambda_bench_9_15 : decode cX1_lambda_bench_9 15 = .ok (.iconst 4, 1) := dk_7 (dk_at dksX1_lambda_bench_9_0 15 rfl rfl)
theorem dX1_lambda_bench_9_16 : decode cX1_lambda_bench_9 16 = .ok (.invokestatic 422, 3) := dk_184 1 166 (dk_at dksX1_lambda_bench_9_0 16 rfl rfl)
theorem dX1_lambda_bench_9_19 : decode cX1_lambda_bench_9 19 = .ok (.ireturn, 1) := dk_172 (dk_at dksX1_lambda_bench_9_0 19 rfl rfl)
abbrev cX1_seat : ByteArray := prog_1_method_32_code
def yX1_seat : MethodName := ⟨RX1, "seat", "(II)I"⟩
def dkwX1_seat_0 : List UInt8 := [42, 27, 28, 186, 1, 2, 0, 0, 182, 0, 99, 172]
abbrev dktX1_seat_0 : List UInt8 := dkwX1_seat_0 ++ []
theorem dksX1_seat_0 : cX1_seat.data.toList.drop 0 = dktX1_seat_0 := by decide +kernel
theorem dX1_seat_0 : decode cX1_seat 0 = .ok (.aload_n 0, 1) := dk_42 (dk_at dksX1_seat_0 0 rfl rfl)
theorem dX1_seat_1 : decode cX1_seat 1 = .ok (.iload_n 1, 1) := dk_27 (dk_at dksX1_seat_0 1 rfl rfl)
theorem dX1_seat_2 : decode cX1_seat 2 = .ok (.iload_n 2, 1) := dk_28 (dk_at dksX1_seat_0 2 rfl rfl)
theorem dX1_seat_3 : decode cX1_seat 3 = .ok (.invokedynamic 258, 5) := by decide +kernel
theorem dX1_seat_8 : decode cX1_seat 8 = .ok (.invokevirtual 99, 3) := dk_182 0 99 (dk_at dksX1_seat_0 8 rfl rfl)
theorem dX1_seat_11 : decode cX1_seat 11 = .ok (.ireturn, 1) := dk_172 (dk_at dksX1_seat_0 11 rfl rfl)
abbrev cX1_lambda_seat_10 : ByteArray := prog_1_method_57_code
def yX1_lambda_seat_10 : MethodName := ⟨RX1, "lambda$seat$10", "(IILPeacockLawns$Garden;)I"⟩
def dkwX1_lambda_seat_10_0 : List UInt8 := [44, 26, 27, 182, 1, 161, 172]
abbrev dktX1_lambda_seat_10_0 : List UInt8 := dkwX1_lambda_seat_10_0 ++ []
theorem dksX1_lambda_seat_10_0 : cX1_lambda_seat_10.data.toList.drop 0 = dktX1_lambda_seat_10_0 := by decide +kernel
theorem dX1_lambda_seat_10_0 : decode cX1_lambda_seat_10 0 = .ok (.aload_n 2, 1) := dk_44 (dk_at dksX1_lambda_seat_10_0 0 rfl rfl)
theorem dX1_lambda_seat_10_1 : decode cX1_lambda_seat_10 1 = .ok (.iload_n 0, 1) := dk_26 (dk_at dksX1_lambda_seat_10_0 1 rfl rfl)
theorem dX1_lambda_seat_10_2 : decode cX1_lambda_seat_10 2 = .ok (.iload_n 1, 1) := dk_27 (dk_at dksX1_lambda_seat_10_0 2 rfl rfl)
theorem dX1_lambda_seat_10_3 : decode cX1_lambda_seat_10 3 = .ok (.invokevirtual 417, 3) := dk_182 1 161 (dk_at dksX1_lambda_seat_10_0 3 rfl rfl)
theorem dX1_lambda_seat_10_6 : decode cX1_lambda_seat_10 6 = .ok (.ireturn, 1) := dk_172 (dk_at dksX1_lambda_seat_10_0 6 rfl rfl)
abbrev cX1_benchOf : ByteArray := prog_1_method_33_code
def yX1_benchOf : MethodName := ⟨RX1, "benchOf", "(II)I"⟩
def dkwX1_benchOf_2 : List UInt8 := [180, 1, 6, 172]
abbrev dktX1_benchOf_2 : List UInt8 := dkwX1_benchOf_2 ++ []
def dkwX1_benchOf_1 : List UInt8 := [28, 154, 0, 10, 45, 180, 0, 212, 167, 0, 19, 28, 4, 160, 0, 10, 45, 180, 1, 3, 167, 0, 7, 45]
abbrev dktX1_benchOf_1 : List UInt8 := dkwX1_benchOf_1 ++ dktX1_benchOf_2
def dkwX1_benchOf_0 : List UInt8 := [42, 180, 0, 27, 180, 0, 194, 27, 184, 0, 111, 192, 0, 210, 78, 28, 3, 5, 184, 0, 117, 184, 0, 121]
abbrev dktX1_benchOf_0 : List UInt8 := dkwX1_benchOf_0 ++ dktX1_benchOf_1
theorem dksX1_benchOf_0 : cX1_benchOf.data.toList.drop 0 = dktX1_benchOf_0 := by decide +kernel
theorem dksX1_benchOf_1 : cX1_benchOf.data.toList.drop 24 = dktX1_benchOf_1 := dk_seg dksX1_benchOf_0 24 rfl rfl
theorem dksX1_benchOf_2 : cX1_benchOf.data.toList.drop 48 = dktX1_benchOf_2 := dk_seg dksX1_benchOf_1 24 rfl rfl
theorem dX1_benchOf_0 : decode cX1_benchOf 0 = .ok (.aload_n 0, 1) := dk_42 (dk_at dksX1_benchOf_0 0 rfl rfl)
theorem dX1_benchOf_1 : decode cX1_benchOf 1 = .ok (.getfield 27, 3) := dk_180 0 27 (dk_at dksX1_benchOf_0 1 rfl rfl)
theorem dX1_benchOf_4 : decode cX1_benchOf 4 = .ok (.getfield 194, 3) := dk_180 0 194 (dk_at dksX1_benchOf_0 4 rfl rfl)
theorem dX1_benchOf_7 : decode cX1_benchOf 7 = .ok (.iload_n 1, 1) := dk_27 (dk_at dksX1_benchOf_0 7 rfl rfl)
theorem dX1_benchOf_8 : decode cX1_benchOf 8 = .ok (.invokestatic 111, 3) := dk_184 0 111 (dk_at dksX1_benchOf_0 8 rfl rfl)
theorem dX1_benchOf_11 : decode cX1_benchOf 11 = .ok (.checkcast 210, 3) := dk_192 0 210 (dk_at dksX1_benchOf_0 11 rfl rfl)
theorem dX1_benchOf_14 : decode cX1_benchOf 14 = .ok (.astore_n 3, 1) := dk_78 (dk_at dksX1_benchOf_0 14 rfl rfl)
theorem dX1_benchOf_15 : decode cX1_benchOf 15 = .ok (.iload_n 2, 1) := dk_28 (dk_at dksX1_benchOf_0 15 rfl rfl)
theorem dX1_benchOf_16 : decode cX1_benchOf 16 = .ok (.iconst 0, 1) := dk_3 (dk_at dksX1_benchOf_0 16 rfl rfl)
theorem dX1_benchOf_17 : decode cX1_benchOf 17 = .ok (.iconst 2, 1) := dk_5 (dk_at dksX1_benchOf_0 17 rfl rfl)
theorem dX1_benchOf_18 : decode cX1_benchOf 18 = .ok (.invokestatic 117, 3) := dk_184 0 117 (dk_at dksX1_benchOf_0 18 rfl rfl)
theorem dX1_benchOf_21 : decode cX1_benchOf 21 = .ok (.invokestatic 121, 3) := dk_184 0 121 (dk_at dksX1_benchOf_0 21 rfl rfl)
theorem dX1_benchOf_24 : decode cX1_benchOf 24 = .ok (.iload_n 2, 1) := dk_28 (dk_at dksX1_benchOf_1 0 rfl rfl)
theorem dX1_benchOf_25 : decode cX1_benchOf 25 = .ok (.ifCond .ne 10, 3) := dk_154 0 10 (dk_at dksX1_benchOf_1 1 rfl rfl)
theorem dX1_benchOf_28 : decode cX1_benchOf 28 = .ok (.aload_n 3, 1) := dk_45 (dk_at dksX1_benchOf_1 4 rfl rfl)
theorem dX1_benchOf_29 : decode cX1_benchOf 29 = .ok (.getfield 212, 3) := dk_180 0 212 (dk_at dksX1_benchOf_1 5 rfl rfl)
theorem dX1_benchOf_32 : decode cX1_benchOf 32 = .ok (.goto 19, 3) := dk_167 0 19 (dk_at dksX1_benchOf_1 8 rfl rfl)
theorem dX1_benchOf_35 : decode cX1_benchOf 35 = .ok (.iload_n 2, 1) := dk_28 (dk_at dksX1_benchOf_1 11 rfl rfl)
theorem dX1_benchOf_36 : decode cX1_benchOf 36 = .ok (.iconst 1, 1) := dk_4 (dk_at dksX1_benchOf_1 12 rfl rfl)
theorem dX1_benchOf_37 : decode cX1_benchOf 37 = .ok (.if_icmp .ne 10, 3) := dk_160 0 10 (dk_at dksX1_benchOf_1 13 rfl rfl)
theorem dX1_benchOf_40 : decode cX1_benchOf 40 = .ok (.aload_n 3, 1) := dk_45 (dk_at dksX1_benchOf_1 16 rfl rfl)
theorem dX1_benchOf_41 : decode cX1_benchOf 41 = .ok (.getfield 259, 3) := dk_180 1 3 (dk_at dksX1_benchOf_1 17 rfl rfl)
theorem dX1_benchOf_44 : decode cX1_benchOf 44 = .ok (.goto 7, 3) := dk_167 0 7 (dk_at dksX1_benchOf_1 20 rfl rfl)
theorem dX1_benchOf_47 : decode cX1_benchOf 47 = .ok (.aload_n 3, 1) := dk_45 (dk_at dksX1_benchOf_1 23 rfl rfl)
theorem dX1_benchOf_48 : decode cX1_benchOf 48 = .ok (.getfield 262, 3) := dk_180 1 6 (dk_at dksX1_benchOf_2 0 rfl rfl)
theorem dX1_benchOf_51 : decode cX1_benchOf 51 = .ok (.ireturn, 1) := dk_172 (dk_at dksX1_benchOf_2 3 rfl rfl)
abbrev cX1_pass : ByteArray := prog_1_method_34_code
def yX1_pass : MethodName := ⟨RX1, "pass", "(I)I"⟩
def dkwX1_pass_0 : List UInt8 := [42, 27, 186, 1, 9, 0, 0, 182, 0, 99, 172]
abbrev dktX1_pass_0 : List UInt8 := dkwX1_pass_0 ++ []
theorem dksX1_pass_0 : cX1_pass.data.toList.drop 0 = dktX1_pass_0 := by decide +kernel
theorem dX1_pass_0 : decode cX1_pass 0 = .ok (.aload_n 0, 1) := dk_42 (dk_at dksX1_pass_0 0 rfl rfl)
theorem dX1_pass_1 : decode cX1_pass 1 = .ok (.iload_n 1, 1) := dk_27 (dk_at dksX1_pass_0 1 rfl rfl)
theorem dX1_pass_2 : decode cX1_pass 2 = .ok (.invokedynamic 265, 5) := by decide +kernel
theorem dX1_pass_7 : decode cX1_pass 7 = .ok (.invokevirtual 99, 3) := dk_182 0 99 (dk_at dksX1_pass_0 7 rfl rfl)
theorem dX1_pass_10 : decode cX1_pass 10 = .ok (.ireturn, 1) := dk_172 (dk_at dksX1_pass_0 10 rfl rfl)
abbrev cX1_lambda_pass_11 : ByteArray := prog_1_method_56_code
def yX1_lambda_pass_11 : MethodName := ⟨RX1, "lambda$pass$11", "(ILPeacockLawns$Garden;)I"⟩
def dkwX1_lambda_pass_11_0 : List UInt8 := [43, 26, 182, 1, 158, 172]
abbrev dktX1_lambda_pass_11_0 : List UInt8 := dkwX1_lambda_pass_11_0 ++ []
theorem dksX1_lambda_pass_11_0 : cX1_lambda_pass_11.data.toList.drop 0 = dktX1_lambda_pass_11_0 := by decide +kernel
theorem dX1_lambda_pass_11_0 : decode cX1_lambda_pass_11 0 = .ok (.aload_n 1, 1) := dk_43 (dk_at dksX1_lambda_pass_11_0 0 rfl rfl)
theorem dX1_lambda_pass_11_1 : decode cX1_lambda_pass_11 1 = .ok (.iload_n 0, 1) := dk_26 (dk_at dksX1_lambda_pass_11_0 1 rfl rfl)
theorem dX1_lambda_pass_11_2 : decode cX1_lambda_pass_11 2 = .ok (.invokevirtual 414, 3) := dk_182 1 158 (dk_at dksX1_lambda_pass_11_0 2 rfl rfl)
theorem dX1_lambda_pass_11_5 : decode cX1_lambda_pass_11 5 = .ok (.ireturn, 1) := dk_172 (dk_at dksX1_lambda_pass_11_0 5 rfl rfl)
abbrev cX1_hatchesIn : ByteArray := prog_1_method_35_code
def yX1_hatchesIn : MethodName := ⟨RX1, "hatchesIn", "(I)I"⟩
def dkwX1_hatchesIn_4 : List UInt8 := [184, 0, 164, 29, 172]
abbrev dktX1_hatchesIn_4 : List UInt8 := dkwX1_hatchesIn_4 ++ []
def dkwX1_hatchesIn_3 : List UInt8 := [182, 1, 13, 54, 5, 132, 3, 1, 167, 255, 210, 21, 4, 16, 27, 160, 0, 7, 4, 167, 0, 4, 3]
abbrev dktX1_hatchesIn_3 : List UInt8 := dkwX1_hatchesIn_3 ++ dktX1_hatchesIn_4
def dkwX1_hatchesIn_2 : List UInt8 := [153, 0, 33, 44, 180, 0, 107, 27, 185, 0, 167, 2, 0, 192, 0, 115, 180, 0, 135, 54, 4, 44]
abbrev dktX1_hatchesIn_2 : List UInt8 := dkwX1_hatchesIn_2 ++ dktX1_hatchesIn_3
def dkwX1_hatchesIn_1 : List UInt8 := [77, 3, 62, 3, 54, 4, 44, 180, 0, 107, 27, 185, 0, 167, 2, 0, 192, 0, 115, 182, 1, 10]
abbrev dktX1_hatchesIn_1 : List UInt8 := dkwX1_hatchesIn_1 ++ dktX1_hatchesIn_2
def dkwX1_hatchesIn_0 : List UInt8 := [42, 180, 0, 27, 180, 0, 107, 27, 184, 0, 111, 192, 0, 115, 182, 1, 10, 184, 0, 164, 42, 182, 0, 79]
abbrev dktX1_hatchesIn_0 : List UInt8 := dkwX1_hatchesIn_0 ++ dktX1_hatchesIn_1
theorem dksX1_hatchesIn_0 : cX1_hatchesIn.data.toList.drop 0 = dktX1_hatchesIn_0 := by decide +kernel
theorem dksX1_hatchesIn_1 : cX1_hatchesIn.data.toList.drop 24 = dktX1_hatchesIn_1 := dk_seg dksX1_hatchesIn_0 24 rfl rfl
theorem dksX1_hatchesIn_2 : cX1_hatchesIn.data.toList.drop 46 = dktX1_hatchesIn_2 := dk_seg dksX1_hatchesIn_1 22 rfl rfl
theorem dksX1_hatchesIn_3 : cX1_hatchesIn.data.toList.drop 68 = dktX1_hatchesIn_3 := dk_seg dksX1_hatchesIn_2 22 rfl rfl
theorem dksX1_hatchesIn_4 : cX1_hatchesIn.data.toList.drop 91 = dktX1_hatchesIn_4 := dk_seg dksX1_hatchesIn_3 23 rfl rfl
theorem dX1_hatchesIn_0 : decode cX1_hatchesIn 0 = .ok (.aload_n 0, 1) := dk_42 (dk_at dksX1_hatchesIn_0 0 rfl rfl)
theorem dX1_hatchesIn_1 : decode cX1_hatchesIn 1 = .ok (.getfield 27, 3) := dk_180 0 27 (dk_at dksX1_hatchesIn_0 1 rfl rfl)
theorem dX1_hatchesIn_4 : decode cX1_hatchesIn 4 = .ok (.getfield 107, 3) := dk_180 0 107 (dk_at dksX1_hatchesIn_0 4 rfl rfl)
theorem dX1_hatchesIn_7 : decode cX1_hatchesIn 7 = .ok (.iload_n 1, 1) := dk_27 (dk_at dksX1_hatchesIn_0 7 rfl rfl)
theorem dX1_hatchesIn_8 : decode cX1_hatchesIn 8 = .ok (.invokestatic 111, 3) := dk_184 0 111 (dk_at dksX1_hatchesIn_0 8 rfl rfl)
theorem dX1_hatchesIn_11 : decode cX1_hatchesIn 11 = .ok (.checkcast 115, 3) := dk_192 0 115 (dk_at dksX1_hatchesIn_0 11 rfl rfl)
theorem dX1_hatchesIn_14 : decode cX1_hatchesIn 14 = .ok (.invokevirtual 266, 3) := dk_182 1 10 (dk_at dksX1_hatchesIn_0 14 rfl rfl)
theorem dX1_hatchesIn_17 : decode cX1_hatchesIn 17 = .ok (.invokestatic 164, 3) := dk_184 0 164 (dk_at dksX1_hatchesIn_0 17 rfl rfl)
theorem dX1_hatchesIn_20 : decode cX1_hatchesIn 20 = .ok (.aload_n 0, 1) := dk_42 (dk_at dksX1_hatchesIn_0 20 rfl rfl)
theorem dX1_hatchesIn_21 : decode cX1_hatchesIn 21 = .ok (.invokevirtual 79, 3) := dk_182 0 79 (dk_at dksX1_hatchesIn_0 21 rfl rfl)
theorem dX1_hatchesIn_24 : decode cX1_hatchesIn 24 = .ok (.astore_n 2, 1) := dk_77 (dk_at dksX1_hatchesIn_1 0 rfl rfl)
theorem dX1_hatchesIn_25 : decode cX1_hatchesIn 25 = .ok (.iconst 0, 1) := dk_3 (dk_at dksX1_hatchesIn_1 1 rfl rfl)
theorem dX1_hatchesIn_26 : decode cX1_hatchesIn 26 = .ok (.istore_n 3, 1) := dk_62 (dk_at dksX1_hatchesIn_1 2 rfl rfl)
theorem dX1_hatchesIn_27 : decode cX1_hatchesIn 27 = .ok (.iconst 0, 1) := dk_3 (dk_at dksX1_hatchesIn_1 3 rfl rfl)
theorem dX1_hatchesIn_28 : decode cX1_hatchesIn 28 = .ok (.istore 4, 2) := dk_54 4 (dk_at dksX1_hatchesIn_1 4 rfl rfl)
theorem dX1_hatchesIn_30 : decode cX1_hatchesIn 30 = .ok (.aload_n 2, 1) := dk_44 (dk_at dksX1_hatchesIn_1 6 rfl rfl)
theorem dX1_hatchesIn_31 : decode cX1_hatchesIn 31 = .ok (.getfield 107, 3) := dk_180 0 107 (dk_at dksX1_hatchesIn_1 7 rfl rfl)
theorem dX1_hatchesIn_34 : decode cX1_hatchesIn 34 = .ok (.iload_n 1, 1) := dk_27 (dk_at dksX1_hatchesIn_1 10 rfl rfl)
theorem dX1_hatchesIn_35 : decode cX1_hatchesIn 35 = .ok (.invokeinterface 167 2, 5) := by decide +kernel
theorem dX1_hatchesIn_40 : decode cX1_hatchesIn 40 = .ok (.checkcast 115, 3) := dk_192 0 115 (dk_at dksX1_hatchesIn_1 16 rfl rfl)
theorem dX1_hatchesIn_43 : decode cX1_hatchesIn 43 = .ok (.invokevirtual 266, 3) := dk_182 1 10 (dk_at dksX1_hatchesIn_1 19 rfl rfl)
theorem dX1_hatchesIn_46 : decode cX1_hatchesIn 46 = .ok (.ifCond .eq 33, 3) := dk_153 0 33 (dk_at dksX1_hatchesIn_2 0 rfl rfl)
theorem dX1_hatchesIn_49 : decode cX1_hatchesIn 49 = .ok (.aload_n 2, 1) := dk_44 (dk_at dksX1_hatchesIn_2 3 rfl rfl)
theorem dX1_hatchesIn_50 : decode cX1_hatchesIn 50 = .ok (.getfield 107, 3) := dk_180 0 107 (dk_at dksX1_hatchesIn_2 4 rfl rfl)
theorem dX1_hatchesIn_53 : decode cX1_hatchesIn 53 = .ok (.iload_n 1, 1) := dk_27 (dk_at dksX1_hatchesIn_2 7 rfl rfl)
theorem dX1_hatchesIn_54 : decode cX1_hatchesIn 54 = .ok (.invokeinterface 167 2, 5) := by decide +kernel
theorem dX1_hatchesIn_59 : decode cX1_hatchesIn 59 = .ok (.checkcast 115, 3) := dk_192 0 115 (dk_at dksX1_hatchesIn_2 13 rfl rfl)
theorem dX1_hatchesIn_62 : decode cX1_hatchesIn 62 = .ok (.getfield 135, 3) := dk_180 0 135 (dk_at dksX1_hatchesIn_2 16 rfl rfl)
theorem dX1_hatchesIn_65 : decode cX1_hatchesIn 65 = .ok (.istore 4, 2) := dk_54 4 (dk_at dksX1_hatchesIn_2 19 rfl rfl)
theorem dX1_hatchesIn_67 : decode cX1_hatchesIn 67 = .ok (.aload_n 2, 1) := dk_44 (dk_at dksX1_hatchesIn_2 21 rfl rfl)
theorem dX1_hatchesIn_68 : decode cX1_hatchesIn 68 = .ok (.invokevirtual 269, 3) := dk_182 1 13 (dk_at dksX1_hatchesIn_3 0 rfl rfl)
theorem dX1_hatchesIn_71 : decode cX1_hatchesIn 71 = .ok (.istore 5, 2) := dk_54 5 (dk_at dksX1_hatchesIn_3 3 rfl rfl)
theorem dX1_hatchesIn_73 : decode cX1_hatchesIn 73 = .ok (.iinc 3 1, 3) := dk_132 3 1 (dk_at dksX1_hatchesIn_3 5 rfl rfl)
theorem dX1_hatchesIn_76 : decode cX1_hatchesIn 76 = .ok (.goto (-46), 3) := dk_167 255 210 (dk_at dksX1_hatchesIn_3 8 rfl rfl)
theorem dX1_hatchesIn_79 : decode cX1_hatchesIn 79 = .ok (.iload 4, 2) := dk_21 4 (dk_at dksX1_hatchesIn_3 11 rfl rfl)
theorem dX1_hatchesIn_81 : decode cX1_hatchesIn 81 = .ok (.bipush 27, 2) := dk_16 27 (dk_at dksX1_hatchesIn_3 13 rfl rfl)
theorem dX1_hatchesIn_83 : decode cX1_hatchesIn 83 = .ok (.if_icmp .ne 7, 3) := dk_160 0 7 (dk_at dksX1_hatchesIn_3 15 rfl rfl)
theorem dX1_hatchesIn_86 : decode cX1_hatchesIn 86 = .ok (.iconst 1, 1) := dk_4 (dk_at dksX1_hatchesIn_3 18 rfl rfl)
theorem dX1_hatchesIn_87 : decode cX1_hatchesIn 87 = .ok (.goto 4, 3) := dk_167 0 4 (dk_at dksX1_hatchesIn_3 19 rfl rfl)
theorem dX1_hatchesIn_90 : decode cX1_hatchesIn 90 = .ok (.iconst 0, 1) := dk_3 (dk_at dksX1_hatchesIn_3 22 rfl rfl)
theorem dX1_hatchesIn_91 : decode cX1_hatchesIn 91 = .ok (.invokestatic 164, 3) := dk_184 0 164 (dk_at dksX1_hatchesIn_4 0 rfl rfl)
theorem dX1_hatchesIn_94 : decode cX1_hatchesIn 94 = .ok (.iload_n 3, 1) := dk_29 (dk_at dksX1_hatchesIn_4 3 rfl rfl)
theorem dX1_hatchesIn_95 : decode cX1_hatchesIn 95 = .ok (.ireturn, 1) := dk_172 (dk_at dksX1_hatchesIn_4 4 rfl rfl)
abbrev cX1_wouldShed : ByteArray := prog_1_method_36_code
def yX1_wouldShed : MethodName := ⟨RX1, "wouldShed", "(I)I"⟩
def dkwX1_wouldShed_1 : List UInt8 := [162, 0, 16, 29, 44, 182, 1, 13, 96, 62, 132, 4, 1, 167, 255, 240, 29, 172]
abbrev dktX1_wouldShed_1 : List UInt8 := dkwX1_wouldShed_1 ++ []
def dkwX1_wouldShed_0 : List UInt8 := [27, 3, 16, 90, 184, 0, 117, 184, 0, 121, 42, 182, 0, 79, 77, 3, 62, 3, 54, 4, 21, 4, 27]
abbrev dktX1_wouldShed_0 : List UInt8 := dkwX1_wouldShed_0 ++ dktX1_wouldShed_1
theorem dksX1_wouldShed_0 : cX1_wouldShed.data.toList.drop 0 = dktX1_wouldShed_0 := by decide +kernel
theorem dksX1_wouldShed_1 : cX1_wouldShed.data.toList.drop 23 = dktX1_wouldShed_1 := dk_seg dksX1_wouldShed_0 23 rfl rfl
theorem dX1_wouldShed_0 : decode cX1_wouldShed 0 = .ok (.iload_n 1, 1) := dk_27 (dk_at dksX1_wouldShed_0 0 rfl rfl)
theorem dX1_wouldShed_1 : decode cX1_wouldShed 1 = .ok (.iconst 0, 1) := dk_3 (dk_at dksX1_wouldShed_0 1 rfl rfl)
theorem dX1_wouldShed_2 : decode cX1_wouldShed 2 = .ok (.bipush 90, 2) := dk_16 90 (dk_at dksX1_wouldShed_0 2 rfl rfl)
theorem dX1_wouldShed_4 : decode cX1_wouldShed 4 = .ok (.invokestatic 117, 3) := dk_184 0 117 (dk_at dksX1_wouldShed_0 4 rfl rfl)
theorem dX1_wouldShed_7 : decode cX1_wouldShed 7 = .ok (.invokestatic 121, 3) := dk_184 0 121 (dk_at dksX1_wouldShed_0 7 rfl rfl)
theorem dX1_wouldShed_10 : decode cX1_wouldShed 10 = .ok (.aload_n 0, 1) := dk_42 (dk_at dksX1_wouldShed_0 10 rfl rfl)
theorem dX1_wouldShed_11 : decode cX1_wouldShed 11 = .ok (.invokevirtual 79, 3) := dk_182 0 79 (dk_at dksX1_wouldShed_0 11 rfl rfl)
theorem dX1_wouldShed_14 : decode cX1_wouldShed 14 = .ok (.astore_n 2, 1) := dk_77 (dk_at dksX1_wouldShed_0 14 rfl rfl)
theorem dX1_wouldShed_15 : decode cX1_wouldShed 15 = .ok (.iconst 0, 1) := dk_3 (dk_at dksX1_wouldShed_0 15 rfl rfl)
theorem dX1_wouldShed_16 : decode cX1_wouldShed 16 = .ok (.istore_n 3, 1) := dk_62 (dk_at dksX1_wouldShed_0 16 rfl rfl)
theorem dX1_wouldShed_17 : decode cX1_wouldShed 17 = .ok (.iconst 0, 1) := dk_3 (dk_at dksX1_wouldShed_0 17 rfl rfl)
theorem dX1_wouldShed_18 : decode cX1_wouldShed 18 = .ok (.istore 4, 2) := dk_54 4 (dk_at dksX1_wouldShed_0 18 rfl rfl)
theorem dX1_wouldShed_20 : decode cX1_wouldShed 20 = .ok (.iload 4, 2) := dk_21 4 (dk_at dksX1_wouldShed_0 20 rfl rfl)
theorem dX1_wouldShed_22 : decode cX1_wouldShed 22 = .ok (.iload_n 1, 1) := dk_27 (dk_at dksX1_wouldShed_0 22 rfl rfl)
theorem dX1_wouldShed_23 : decode cX1_wouldShed 23 = .ok (.if_icmp .ge 16, 3) := dk_162 0 16 (dk_at dksX1_wouldShed_1 0 rfl rfl)
theorem dX1_wouldShed_26 : decode cX1_wouldShed 26 = .ok (.iload_n 3, 1) := dk_29 (dk_at dksX1_wouldShed_1 3 rfl rfl)
theorem dX1_wouldShed_27 : decode cX1_wouldShed 27 = .ok (.aload_n 2, 1) := dk_44 (dk_at dksX1_wouldShed_1 4 rfl rfl)
theorem dX1_wouldShed_28 : decode cX1_wouldShed 28 = .ok (.invokevirtual 269, 3) := dk_182 1 13 (dk_at dksX1_wouldShed_1 5 rfl rfl)
theorem dX1_wouldShed_31 : decode cX1_wouldShed 31 = .ok (.iadd, 1) := dk_96 (dk_at dksX1_wouldShed_1 8 rfl rfl)
theorem dX1_wouldShed_32 : decode cX1_wouldShed 32 = .ok (.istore_n 3, 1) := dk_62 (dk_at dksX1_wouldShed_1 9 rfl rfl)
theorem dX1_wouldShed_33 : decode cX1_wouldShed 33 = .ok (.iinc 4 1, 3) := dk_132 4 1 (dk_at dksX1_wouldShed_1 10 rfl rfl)
theorem dX1_wouldShed_36 : decode cX1_wouldShed 36 = .ok (.goto (-16), 3) := dk_167 255 240 (dk_at dksX1_wouldShed_1 13 rfl rfl)
theorem dX1_wouldShed_39 : decode cX1_wouldShed 39 = .ok (.iload_n 3, 1) := dk_29 (dk_at dksX1_wouldShed_1 16 rfl rfl)
theorem dX1_wouldShed_40 : decode cX1_wouldShed 40 = .ok (.ireturn, 1) := dk_172 (dk_at dksX1_wouldShed_1 17 rfl rfl)
abbrev cX1_line : ByteArray := prog_1_method_38_code
def yX1_line : MethodName := ⟨RX1, "line", "(I)I"⟩
def dkwX1_line_9 : List UInt8 := [182, 1, 30, 87, 42, 45, 181, 0, 49, 42, 180, 0, 49, 185, 1, 43, 1, 0, 172]
abbrev dktX1_line_9 : List UInt8 := dkwX1_line_9 ++ []
def dkwX1_line_8 : List UInt8 := [18, 47, 182, 1, 30, 42, 180, 0, 27, 180, 0, 176, 28, 160, 0, 9, 19, 1, 41, 167, 0, 5, 18, 47]
abbrev dktX1_line_8 : List UInt8 := dkwX1_line_8 ++ dktX1_line_9
def dkwX1_line_7 : List UInt8 := [19, 1, 39, 182, 1, 30, 42, 180, 0, 27, 180, 0, 182, 28, 46, 182, 1, 19, 182, 1, 35, 167, 0, 5]
abbrev dktX1_line_7 : List UInt8 := dkwX1_line_7 ++ dktX1_line_8
def dkwX1_line_6 : List UInt8 := [167, 255, 141, 45, 42, 180, 0, 27, 180, 0, 182, 28, 46, 158, 0, 34, 187, 0, 40, 89, 183, 0, 42]
abbrev dktX1_line_6 : List UInt8 := dkwX1_line_6 ++ dktX1_line_7
def dkwX1_line_5 : List UInt8 := [25, 5, 180, 0, 132, 182, 1, 19, 182, 1, 35, 167, 0, 5, 18, 47, 182, 1, 30, 87, 132, 4, 1]
abbrev dktX1_line_5 : List UInt8 := dkwX1_line_5 ++ dktX1_line_6
def dkwX1_line_4 : List UInt8 := [182, 1, 19, 25, 5, 182, 1, 10, 153, 0, 30, 187, 0, 40, 89, 183, 0, 42, 19, 1, 33, 182, 1, 30]
abbrev dktX1_line_4 : List UInt8 := dkwX1_line_4 ++ dktX1_line_5
def dkwX1_line_3 : List UInt8 := [45, 25, 5, 180, 0, 125, 153, 0, 9, 19, 1, 26, 167, 0, 6, 19, 1, 28, 182, 1, 30, 21, 4]
abbrev dktX1_line_3 : List UInt8 := dkwX1_line_3 ++ dktX1_line_4
def dkwX1_line_2 : List UInt8 := [180, 0, 107, 21, 4, 185, 0, 167, 2, 0, 192, 0, 115, 58, 5, 25, 5, 180, 0, 129, 28, 160, 0, 70]
abbrev dktX1_line_2 : List UInt8 := dkwX1_line_2 ++ dktX1_line_3
def dkwX1_line_1 : List UInt8 := [54, 4, 21, 4, 42, 180, 0, 27, 180, 0, 107, 185, 0, 161, 1, 0, 162, 0, 104, 42, 180, 0, 27]
abbrev dktX1_line_1 : List UInt8 := dkwX1_line_1 ++ dktX1_line_2
def dkwX1_line_0 : List UInt8 := [27, 184, 0, 179, 61, 187, 0, 40, 89, 183, 0, 42, 28, 182, 1, 19, 16, 58, 182, 1, 23, 78, 3]
abbrev dktX1_line_0 : List UInt8 := dkwX1_line_0 ++ dktX1_line_1
theorem dksX1_line_0 : cX1_line.data.toList.drop 0 = dktX1_line_0 := by decide +kernel
theorem dksX1_line_1 : cX1_line.data.toList.drop 23 = dktX1_line_1 := dk_seg dksX1_line_0 23 rfl rfl
theorem dksX1_line_2 : cX1_line.data.toList.drop 46 = dktX1_line_2 := dk_seg dksX1_line_1 23 rfl rfl
theorem dksX1_line_3 : cX1_line.data.toList.drop 70 = dktX1_line_3 := dk_seg dksX1_line_2 24 rfl rfl
theorem dksX1_line_4 : cX1_line.data.toList.drop 93 = dktX1_line_4 := dk_seg dksX1_line_3 23 rfl rfl
theorem dksX1_line_5 : cX1_line.data.toList.drop 117 = dktX1_line_5 := dk_seg dksX1_line_4 24 rfl rfl
theorem dksX1_line_6 : cX1_line.data.toList.drop 140 = dktX1_line_6 := dk_seg dksX1_line_5 23 rfl rfl
theorem dksX1_line_7 : cX1_line.data.toList.drop 163 = dktX1_line_7 := dk_seg dksX1_line_6 23 rfl rfl
theorem dksX1_line_8 : cX1_line.data.toList.drop 187 = dktX1_line_8 := dk_seg dksX1_line_7 24 rfl rfl
theorem dksX1_line_9 : cX1_line.data.toList.drop 211 = dktX1_line_9 := dk_seg dksX1_line_8 24 rfl rfl
theorem dX1_line_0 : decode cX1_line 0 = .ok (.iload_n 1, 1) := dk_27 (dk_at dksX1_line_0 0 rfl rfl)
theorem dX1_line_1 : decode cX1_line 1 = .ok (.invokestatic 179, 3) := dk_184 0 179 (dk_at dksX1_line_0 1 rfl rfl)
theorem dX1_line_4 : decode cX1_line 4 = .ok (.istore_n 2, 1) := dk_61 (dk_at dksX1_line_0 4 rfl rfl)
theorem dX1_line_5 : decode cX1_line 5 = .ok (.new 40, 3) := dk_187 0 40 (dk_at dksX1_line_0 5 rfl rfl)
theorem dX1_line_8 : decode cX1_line 8 = .ok (.dup, 1) := dk_89 (dk_at dksX1_line_0 8 rfl rfl)
theorem dX1_line_9 : decode cX1_line 9 = .ok (.invokespecial 42, 3) := dk_183 0 42 (dk_at dksX1_line_0 9 rfl rfl)
theorem dX1_line_12 : decode cX1_line 12 = .ok (.iload_n 2, 1) := dk_28 (dk_at dksX1_line_0 12 rfl rfl)
theorem dX1_line_13 : decode cX1_line 13 = .ok (.invokevirtual 275, 3) := dk_182 1 19 (dk_at dksX1_line_0 13 rfl rfl)
theorem dX1_line_16 : decode cX1_line 16 = .ok (.bipush 58, 2) := dk_16 58 (dk_at dksX1_line_0 16 rfl rfl)
theorem dX1_line_18 : decode cX1_line 18 = .ok (.invokevirtual 279, 3) := dk_182 1 23 (dk_at dksX1_line_0 18 rfl rfl)
theorem dX1_line_21 : decode cX1_line 21 = .ok (.astore_n 3, 1) := dk_78 (dk_at dksX1_line_0 21 rfl rfl)
theorem dX1_line_22 : decode cX1_line 22 = .ok (.iconst 0, 1) := dk_3 (dk_at dksX1_line_0 22 rfl rfl)
theorem dX1_line_23 : decode cX1_line 23 = .ok (.istore 4, 2) := dk_54 4 (dk_at dksX1_line_1 0 rfl rfl)
theorem dX1_line_25 : decode cX1_line 25 = .ok (.iload 4, 2) := dk_21 4 (dk_at dksX1_line_1 2 rfl rfl)
theorem dX1_line_27 : decode cX1_line 27 = .ok (.aload_n 0, 1) := dk_42 (dk_at dksX1_line_1 4 rfl rfl)
theorem dX1_line_28 : decode cX1_line 28 = .ok (.getfield 27, 3) := dk_180 0 27 (dk_at dksX1_line_1 5 rfl rfl)
theorem dX1_line_31 : decode cX1_line 31 = .ok (.getfield 107, 3) := dk_180 0 107 (dk_at dksX1_line_1 8 rfl rfl)
theorem dX1_line_34 : decode cX1_line 34 = .ok (.invokeinterface 161 1, 5) := by decide +kernel
theorem dX1_line_39 : decode cX1_line 39 = .ok (.if_icmp .ge 104, 3) := dk_162 0 104 (dk_at dksX1_line_1 16 rfl rfl)
theorem dX1_line_42 : decode cX1_line 42 = .ok (.aload_n 0, 1) := dk_42 (dk_at dksX1_line_1 19 rfl rfl)
theorem dX1_line_43 : decode cX1_line 43 = .ok (.getfield 27, 3) := dk_180 0 27 (dk_at dksX1_line_1 20 rfl rfl)
theorem dX1_line_46 : decode cX1_line 46 = .ok (.getfield 107, 3) := dk_180 0 107 (dk_at dksX1_line_2 0 rfl rfl)
theorem dX1_line_49 : decode cX1_line 49 = .ok (.iload 4, 2) := dk_21 4 (dk_at dksX1_line_2 3 rfl rfl)
theorem dX1_line_51 : decode cX1_line 51 = .ok (.invokeinterface 167 2, 5) := by decide +kernel
theorem dX1_line_56 : decode cX1_line 56 = .ok (.checkcast 115, 3) := dk_192 0 115 (dk_at dksX1_line_2 10 rfl rfl)
theorem dX1_line_59 : decode cX1_line 59 = .ok (.astore 5, 2) := dk_58 5 (dk_at dksX1_line_2 13 rfl rfl)
theorem dX1_line_61 : decode cX1_line 61 = .ok (.aload 5, 2) := dk_25 5 (dk_at dksX1_line_2 15 rfl rfl)
theorem dX1_line_63 : decode cX1_line 63 = .ok (.getfield 129, 3) := dk_180 0 129 (dk_at dksX1_line_2 17 rfl rfl)
theorem dX1_line_66 : decode cX1_line 66 = .ok (.iload_n 2, 1) := dk_28 (dk_at dksX1_line_2 20 rfl rfl)
theorem dX1_line_67 : decode cX1_line 67 = .ok (.if_icmp .ne 70, 3) := dk_160 0 70 (dk_at dksX1_line_2 21 rfl rfl)
theorem dX1_line_70 : decode cX1_line 70 = .ok (.aload_n 3, 1) := dk_45 (dk_at dksX1_line_3 0 rfl rfl)
theorem dX1_line_71 : decode cX1_line 71 = .ok (.aload 5, 2) := dk_25 5 (dk_at dksX1_line_3 1 rfl rfl)
theorem dX1_line_73 : decode cX1_line 73 = .ok (.getfield 125, 3) := dk_180 0 125 (dk_at dksX1_line_3 3 rfl rfl)
theorem dX1_line_76 : decode cX1_line 76 = .ok (.ifCond .eq 9, 3) := dk_153 0 9 (dk_at dksX1_line_3 6 rfl rfl)
theorem dX1_line_79 : decode cX1_line 79 = .ok (.ldc_w 282, 3) := dk_19 1 26 (dk_at dksX1_line_3 9 rfl rfl)
theorem dX1_line_82 : decode cX1_line 82 = .ok (.goto 6, 3) := dk_167 0 6 (dk_at dksX1_line_3 12 rfl rfl)
theorem dX1_line_85 : decode cX1_line 85 = .ok (.ldc_w 284, 3) := dk_19 1 28 (dk_at dksX1_line_3 15 rfl rfl)
theorem dX1_line_88 : decode cX1_line 88 = .ok (.invokevirtual 286, 3) := dk_182 1 30 (dk_at dksX1_line_3 18 rfl rfl)
theorem dX1_line_91 : decode cX1_line 91 = .ok (.iload 4, 2) := dk_21 4 (dk_at dksX1_line_3 21 rfl rfl)
theorem dX1_line_93 : decode cX1_line 93 = .ok (.invokevirtual 275, 3) := dk_182 1 19 (dk_at dksX1_line_4 0 rfl rfl)
theorem dX1_line_96 : decode cX1_line 96 = .ok (.aload 5, 2) := dk_25 5 (dk_at dksX1_line_4 3 rfl rfl)
theorem dX1_line_98 : decode cX1_line 98 = .ok (.invokevirtual 266, 3) := dk_182 1 10 (dk_at dksX1_line_4 5 rfl rfl)
theorem dX1_line_101 : decode cX1_line 101 = .ok (.ifCond .eq 30, 3) := dk_153 0 30 (dk_at dksX1_line_4 8 rfl rfl)
theorem dX1_line_104 : decode cX1_line 104 = .ok (.new 40, 3) := dk_187 0 40 (dk_at dksX1_line_4 11 rfl rfl)
theorem dX1_line_107 : decode cX1_line 107 = .ok (.dup, 1) := dk_89 (dk_at dksX1_line_4 14 rfl rfl)
theorem dX1_line_108 : decode cX1_line 108 = .ok (.invokespecial 42, 3) := dk_183 0 42 (dk_at dksX1_line_4 15 rfl rfl)
theorem dX1_line_111 : decode cX1_line 111 = .ok (.ldc_w 289, 3) := dk_19 1 33 (dk_at dksX1_line_4 18 rfl rfl)
theorem dX1_line_114 : decode cX1_line 114 = .ok (.invokevirtual 286, 3) := dk_182 1 30 (dk_at dksX1_line_4 21 rfl rfl)
theorem dX1_line_117 : decode cX1_line 117 = .ok (.aload 5, 2) := dk_25 5 (dk_at dksX1_line_5 0 rfl rfl)
theorem dX1_line_119 : decode cX1_line 119 = .ok (.getfield 132, 3) := dk_180 0 132 (dk_at dksX1_line_5 2 rfl rfl)
theorem dX1_line_122 : decode cX1_line 122 = .ok (.invokevirtual 275, 3) := dk_182 1 19 (dk_at dksX1_line_5 5 rfl rfl)
theorem dX1_line_125 : decode cX1_line 125 = .ok (.invokevirtual 291, 3) := dk_182 1 35 (dk_at dksX1_line_5 8 rfl rfl)
theorem dX1_line_128 : decode cX1_line 128 = .ok (.goto 5, 3) := dk_167 0 5 (dk_at dksX1_line_5 11 rfl rfl)
theorem dX1_line_131 : decode cX1_line 131 = .ok (.ldc 47, 2) := dk_18 47 (dk_at dksX1_line_5 14 rfl rfl)
theorem dX1_line_133 : decode cX1_line 133 = .ok (.invokevirtual 286, 3) := dk_182 1 30 (dk_at dksX1_line_5 16 rfl rfl)
theorem dX1_line_136 : decode cX1_line 136 = .ok (.pop, 1) := dk_87 (dk_at dksX1_line_5 19 rfl rfl)
theorem dX1_line_137 : decode cX1_line 137 = .ok (.iinc 4 1, 3) := dk_132 4 1 (dk_at dksX1_line_5 20 rfl rfl)
theorem dX1_line_140 : decode cX1_line 140 = .ok (.goto (-115), 3) := dk_167 255 141 (dk_at dksX1_line_6 0 rfl rfl)
theorem dX1_line_143 : decode cX1_line 143 = .ok (.aload_n 3, 1) := dk_45 (dk_at dksX1_line_6 3 rfl rfl)
theorem dX1_line_144 : decode cX1_line 144 = .ok (.aload_n 0, 1) := dk_42 (dk_at dksX1_line_6 4 rfl rfl)
theorem dX1_line_145 : decode cX1_line 145 = .ok (.getfield 27, 3) := dk_180 0 27 (dk_at dksX1_line_6 5 rfl rfl)
theorem dX1_line_148 : decode cX1_line 148 = .ok (.getfield 182, 3) := dk_180 0 182 (dk_at dksX1_line_6 8 rfl rfl)
theorem dX1_line_151 : decode cX1_line 151 = .ok (.iload_n 2, 1) := dk_28 (dk_at dksX1_line_6 11 rfl rfl)
theorem dX1_line_152 : decode cX1_line 152 = .ok (.iaload, 1) := dk_46 (dk_at dksX1_line_6 12 rfl rfl)
theorem dX1_line_153 : decode cX1_line 153 = .ok (.ifCond .le 34, 3) := dk_158 0 34 (dk_at dksX1_line_6 13 rfl rfl)
theorem dX1_line_156 : decode cX1_line 156 = .ok (.new 40, 3) := dk_187 0 40 (dk_at dksX1_line_6 16 rfl rfl)
theorem dX1_line_159 : decode cX1_line 159 = .ok (.dup, 1) := dk_89 (dk_at dksX1_line_6 19 rfl rfl)
theorem dX1_line_160 : decode cX1_line 160 = .ok (.invokespecial 42, 3) := dk_183 0 42 (dk_at dksX1_line_6 20 rfl rfl)
theorem dX1_line_163 : decode cX1_line 163 = .ok (.ldc_w 295, 3) := dk_19 1 39 (dk_at dksX1_line_7 0 rfl rfl)
theorem dX1_line_166 : decode cX1_line 166 = .ok (.invokevirtual 286, 3) := dk_182 1 30 (dk_at dksX1_line_7 3 rfl rfl)
theorem dX1_line_169 : decode cX1_line 169 = .ok (.aload_n 0, 1) := dk_42 (dk_at dksX1_line_7 6 rfl rfl)
theorem dX1_line_170 : decode cX1_line 170 = .ok (.getfield 27, 3) := dk_180 0 27 (dk_at dksX1_line_7 7 rfl rfl)
theorem dX1_line_173 : decode cX1_line 173 = .ok (.getfield 182, 3) := dk_180 0 182 (dk_at dksX1_line_7 10 rfl rfl)
theorem dX1_line_176 : decode cX1_line 176 = .ok (.iload_n 2, 1) := dk_28 (dk_at dksX1_line_7 13 rfl rfl)
theorem dX1_line_177 : decode cX1_line 177 = .ok (.iaload, 1) := dk_46 (dk_at dksX1_line_7 14 rfl rfl)
theorem dX1_line_178 : decode cX1_line 178 = .ok (.invokevirtual 275, 3) := dk_182 1 19 (dk_at dksX1_line_7 15 rfl rfl)
theorem dX1_line_181 : decode cX1_line 181 = .ok (.invokevirtual 291, 3) := dk_182 1 35 (dk_at dksX1_line_7 18 rfl rfl)
theorem dX1_line_184 : decode cX1_line 184 = .ok (.goto 5, 3) := dk_167 0 5 (dk_at dksX1_line_7 21 rfl rfl)
theorem dX1_line_187 : decode cX1_line 187 = .ok (.ldc 47, 2) := dk_18 47 (dk_at dksX1_line_8 0 rfl rfl)
theorem dX1_line_189 : decode cX1_line 189 = .ok (.invokevirtual 286, 3) := dk_182 1 30 (dk_at dksX1_line_8 2 rfl rfl)
theorem dX1_line_192 : decode cX1_line 192 = .ok (.aload_n 0, 1) := dk_42 (dk_at dksX1_line_8 5 rfl rfl)
theorem dX1_line_193 : decode cX1_line 193 = .ok (.getfield 27, 3) := dk_180 0 27 (dk_at dksX1_line_8 6 rfl rfl)
theorem dX1_line_196 : decode cX1_line 196 = .ok (.getfield 176, 3) := dk_180 0 176 (dk_at dksX1_line_8 9 rfl rfl)
theorem dX1_line_199 : decode cX1_line 199 = .ok (.iload_n 2, 1) := dk_28 (dk_at dksX1_line_8 12 rfl rfl)
theorem dX1_line_200 : decode cX1_line 200 = .ok (.if_icmp .ne 9, 3) := dk_160 0 9 (dk_at dksX1_line_8 13 rfl rfl)
theorem dX1_line_203 : decode cX1_line 203 = .ok (.ldc_w 297, 3) := dk_19 1 41 (dk_at dksX1_line_8 16 rfl rfl)
theorem dX1_line_206 : decode cX1_line 206 = .ok (.goto 5, 3) := dk_167 0 5 (dk_at dksX1_line_8 19 rfl rfl)
theorem dX1_line_209 : decode cX1_line 209 = .ok (.ldc 47, 2) := dk_18 47 (dk_at dksX1_line_8 22 rfl rfl)
theorem dX1_line_211 : decode cX1_line 211 = .ok (.invokevirtual 286, 3) := dk_182 1 30 (dk_at dksX1_line_9 0 rfl rfl)
theorem dX1_line_214 : decode cX1_line 214 = .ok (.pop, 1) := dk_87 (dk_at dksX1_line_9 3 rfl rfl)
theorem dX1_line_215 : decode cX1_line 215 = .ok (.aload_n 0, 1) := dk_42 (dk_at dksX1_line_9 4 rfl rfl)
theorem dX1_line_216 : decode cX1_line 216 = .ok (.aload_n 3, 1) := dk_45 (dk_at dksX1_line_9 5 rfl rfl)
theorem dX1_line_217 : decode cX1_line 217 = .ok (.putfield 49, 3) := dk_181 0 49 (dk_at dksX1_line_9 6 rfl rfl)
theorem dX1_line_220 : decode cX1_line 220 = .ok (.aload_n 0, 1) := dk_42 (dk_at dksX1_line_9 9 rfl rfl)
theorem dX1_line_221 : decode cX1_line 221 = .ok (.getfield 49, 3) := dk_180 0 49 (dk_at dksX1_line_9 10 rfl rfl)
theorem dX1_line_224 : decode cX1_line 224 = .ok (.invokeinterface 299 1, 5) := by decide +kernel
theorem dX1_line_229 : decode cX1_line 229 = .ok (.ireturn, 1) := dk_172 (dk_at dksX1_line_9 18 rfl rfl)
abbrev cX1_character : ByteArray := prog_1_method_39_code
def yX1_character : MethodName := ⟨RX1, "character", "(I)C"⟩
def dkwX1_character_1 : List UInt8 := [185, 1, 48, 2, 0, 172]
abbrev dktX1_character_1 : List UInt8 := dkwX1_character_1 ++ []
def dkwX1_character_0 : List UInt8 := [27, 3, 42, 180, 0, 49, 185, 1, 43, 1, 0, 4, 100, 184, 0, 117, 184, 0, 229, 42, 180, 0, 49, 27]
abbrev dktX1_character_0 : List UInt8 := dkwX1_character_0 ++ dktX1_character_1
theorem dksX1_character_0 : cX1_character.data.toList.drop 0 = dktX1_character_0 := by decide +kernel
theorem dksX1_character_1 : cX1_character.data.toList.drop 24 = dktX1_character_1 := dk_seg dksX1_character_0 24 rfl rfl
theorem dX1_character_0 : decode cX1_character 0 = .ok (.iload_n 1, 1) := dk_27 (dk_at dksX1_character_0 0 rfl rfl)
theorem dX1_character_1 : decode cX1_character 1 = .ok (.iconst 0, 1) := dk_3 (dk_at dksX1_character_0 1 rfl rfl)
theorem dX1_character_2 : decode cX1_character 2 = .ok (.aload_n 0, 1) := dk_42 (dk_at dksX1_character_0 2 rfl rfl)
theorem dX1_character_3 : decode cX1_character 3 = .ok (.getfield 49, 3) := dk_180 0 49 (dk_at dksX1_character_0 3 rfl rfl)
theorem dX1_character_6 : decode cX1_character 6 = .ok (.invokeinterface 299 1, 5) := by decide +kernel
theorem dX1_character_11 : decode cX1_character 11 = .ok (.iconst 1, 1) := dk_4 (dk_at dksX1_character_0 11 rfl rfl)
theorem dX1_character_12 : decode cX1_character 12 = .ok (.isub, 1) := dk_100 (dk_at dksX1_character_0 12 rfl rfl)
theorem dX1_character_13 : decode cX1_character 13 = .ok (.invokestatic 117, 3) := dk_184 0 117 (dk_at dksX1_character_0 13 rfl rfl)
theorem dX1_character_16 : decode cX1_character 16 = .ok (.invokestatic 229, 3) := dk_184 0 229 (dk_at dksX1_character_0 16 rfl rfl)
theorem dX1_character_19 : decode cX1_character 19 = .ok (.aload_n 0, 1) := dk_42 (dk_at dksX1_character_0 19 rfl rfl)
theorem dX1_character_20 : decode cX1_character 20 = .ok (.getfield 49, 3) := dk_180 0 49 (dk_at dksX1_character_0 20 rfl rfl)
theorem dX1_character_23 : decode cX1_character 23 = .ok (.iload_n 1, 1) := dk_27 (dk_at dksX1_character_0 23 rfl rfl)
theorem dX1_character_24 : decode cX1_character 24 = .ok (.invokeinterface 304 2, 5) := by decide +kernel
theorem dX1_character_29 : decode cX1_character 29 = .ok (.ireturn, 1) := dk_172 (dk_at dksX1_character_1 5 rfl rfl)
abbrev cX1_number : ByteArray := prog_1_method_41_code
def yX1_number : MethodName := ⟨RX1, "number", "(I)I"⟩
def dkwX1_number_8 : List UInt8 := [180, 1, 94, 167, 0, 20, 42, 180, 0, 36, 182, 0, 60, 167, 0, 10, 42, 180, 0, 43, 182, 1, 97, 172]
abbrev dktX1_number_8 : List UInt8 := dkwX1_number_8 ++ []
def dkwX1_number_7 : List UInt8 := [185, 0, 161, 1, 0, 167, 0, 41, 42, 182, 1, 89, 167, 0, 34, 44, 180, 1, 91, 167, 0, 27, 44]
abbrev dktX1_number_7 : List UInt8 := dkwX1_number_7 ++ dktX1_number_8
def dkwX1_number_6 : List UInt8 := [44, 180, 1, 86, 167, 0, 65, 44, 180, 0, 213, 185, 0, 161, 1, 0, 167, 0, 53, 44, 180, 0, 194]
abbrev dktX1_number_6 : List UInt8 := dkwX1_number_6 ++ dktX1_number_7
def dkwX1_number_5 : List UInt8 := [44, 180, 0, 182, 184, 1, 76, 167, 0, 86, 44, 180, 1, 80, 167, 0, 79, 44, 180, 1, 83, 167, 0, 72]
abbrev dktX1_number_5 : List UInt8 := dkwX1_number_5 ++ dktX1_number_6
def dkwX1_number_4 : List UInt8 := [167, 0, 117, 44, 180, 1, 69, 167, 0, 110, 44, 180, 1, 72, 167, 0, 103, 44, 180, 1, 75, 167, 0, 96]
abbrev dktX1_number_4 : List UInt8 := dkwX1_number_4 ++ dktX1_number_5
def dkwX1_number_3 : List UInt8 := [167, 0, 141, 44, 186, 1, 58, 0, 0, 182, 0, 190, 167, 0, 129, 44, 186, 1, 61, 0, 0, 182, 1, 65]
abbrev dktX1_number_3 : List UInt8 := dkwX1_number_3 ++ dktX1_number_4
def dkwX1_number_2 : List UInt8 := [44, 180, 1, 52, 167, 0, 160, 44, 182, 1, 55, 167, 0, 153, 44, 180, 0, 107, 185, 0, 161, 1, 0]
abbrev dktX1_number_2 : List UInt8 := dkwX1_number_2 ++ dktX1_number_3
def dkwX1_number_1 : List UInt8 := [170, 0, 0, 0, 0, 0, 0, 245, 0, 0, 0, 0, 0, 0, 0, 17, 0, 0, 0, 88, 0, 0, 0, 95, 0, 0, 0, 102, 0, 0, 0, 114, 0, 0, 0, 126, 0, 0, 0, 138, 0, 0, 0, 145, 0, 0, 0, 152, 0, 0, 0, 159, 0, 0, 0, 169, 0, 0, 0, 176, 0, 0, 0, 183, 0, 0, 0, 190, 0, 0, 0, 202, 0, 0, 0, 214, 0, 0, 0, 221, 0, 0, 0, 228, 0, 0, 0, 235]
abbrev dktX1_number_1 : List UInt8 := dkwX1_number_1 ++ dktX1_number_2
def dkwX1_number_0 : List UInt8 := [27, 3, 16, 18, 184, 0, 117, 184, 0, 121, 42, 180, 0, 27, 77, 27]
abbrev dktX1_number_0 : List UInt8 := dkwX1_number_0 ++ dktX1_number_1
theorem dksX1_number_0 : cX1_number.data.toList.drop 0 = dktX1_number_0 := by decide +kernel
theorem dksX1_number_1 : cX1_number.data.toList.drop 16 = dktX1_number_1 := dk_seg dksX1_number_0 16 rfl rfl
theorem dksX1_number_2 : cX1_number.data.toList.drop 104 = dktX1_number_2 := dk_seg dksX1_number_1 88 rfl rfl
theorem dksX1_number_3 : cX1_number.data.toList.drop 127 = dktX1_number_3 := dk_seg dksX1_number_2 23 rfl rfl
theorem dksX1_number_4 : cX1_number.data.toList.drop 151 = dktX1_number_4 := dk_seg dksX1_number_3 24 rfl rfl
theorem dksX1_number_5 : cX1_number.data.toList.drop 175 = dktX1_number_5 := dk_seg dksX1_number_4 24 rfl rfl
theorem dksX1_number_6 : cX1_number.data.toList.drop 199 = dktX1_number_6 := dk_seg dksX1_number_5 24 rfl rfl
theorem dksX1_number_7 : cX1_number.data.toList.drop 222 = dktX1_number_7 := dk_seg dksX1_number_6 23 rfl rfl
theorem dksX1_number_8 : cX1_number.data.toList.drop 245 = dktX1_number_8 := dk_seg dksX1_number_7 23 rfl rfl
theorem dX1_number_0 : decode cX1_number 0 = .ok (.iload_n 1, 1) := dk_27 (dk_at dksX1_number_0 0 rfl rfl)
theorem dX1_number_1 : decode cX1_number 1 = .ok (.iconst 0, 1) := dk_3 (dk_at dksX1_number_0 1 rfl rfl)
theorem dX1_number_2 : decode cX1_number 2 = .ok (.bipush 18, 2) := dk_16 18 (dk_at dksX1_number_0 2 rfl rfl)
theorem dX1_number_4 : decode cX1_number 4 = .ok (.invokestatic 117, 3) := dk_184 0 117 (dk_at dksX1_number_0 4 rfl rfl)
theorem dX1_number_7 : decode cX1_number 7 = .ok (.invokestatic 121, 3) := dk_184 0 121 (dk_at dksX1_number_0 7 rfl rfl)
theorem dX1_number_10 : decode cX1_number 10 = .ok (.aload_n 0, 1) := dk_42 (dk_at dksX1_number_0 10 rfl rfl)
theorem dX1_number_11 : decode cX1_number 11 = .ok (.getfield 27, 3) := dk_180 0 27 (dk_at dksX1_number_0 11 rfl rfl)
theorem dX1_number_14 : decode cX1_number 14 = .ok (.astore_n 2, 1) := dk_77 (dk_at dksX1_number_0 14 rfl rfl)
theorem dX1_number_15 : decode cX1_number 15 = .ok (.iload_n 1, 1) := dk_27 (dk_at dksX1_number_0 15 rfl rfl)
theorem dX1_number_16 : decode cX1_number 16 = .ok (.tableswitch 245 0 17 #[88, 95, 102, 114, 126, 138, 145, 152, 159, 169, 176, 183, 190, 202, 214, 221, 228, 235], 88) := by decide +kernel
theorem dX1_number_104 : decode cX1_number 104 = .ok (.aload_n 2, 1) := dk_44 (dk_at dksX1_number_2 0 rfl rfl)
theorem dX1_number_105 : decode cX1_number 105 = .ok (.getfield 308, 3) := dk_180 1 52 (dk_at dksX1_number_2 1 rfl rfl)
theorem dX1_number_108 : decode cX1_number 108 = .ok (.goto 160, 3) := dk_167 0 160 (dk_at dksX1_number_2 4 rfl rfl)
theorem dX1_number_111 : decode cX1_number 111 = .ok (.aload_n 2, 1) := dk_44 (dk_at dksX1_number_2 7 rfl rfl)
theorem dX1_number_112 : decode cX1_number 112 = .ok (.invokevirtual 311, 3) := dk_182 1 55 (dk_at dksX1_number_2 8 rfl rfl)
theorem dX1_number_115 : decode cX1_number 115 = .ok (.goto 153, 3) := dk_167 0 153 (dk_at dksX1_number_2 11 rfl rfl)
theorem dX1_number_118 : decode cX1_number 118 = .ok (.aload_n 2, 1) := dk_44 (dk_at dksX1_number_2 14 rfl rfl)
theorem dX1_number_119 : decode cX1_number 119 = .ok (.getfield 107, 3) := dk_180 0 107 (dk_at dksX1_number_2 15 rfl rfl)
theorem dX1_number_122 : decode cX1_number 122 = .ok (.invokeinterface 161 1, 5) := by decide +kernel
theorem dX1_number_127 : decode cX1_number 127 = .ok (.goto 141, 3) := dk_167 0 141 (dk_at dksX1_number_3 0 rfl rfl)
theorem dX1_number_130 : decode cX1_number 130 = .ok (.aload_n 2, 1) := dk_44 (dk_at dksX1_number_3 3 rfl rfl)
theorem dX1_number_131 : decode cX1_number 131 = .ok (.invokedynamic 314, 5) := by decide +kernel
theorem dX1_number_136 : decode cX1_number 136 = .ok (.invokevirtual 190, 3) := dk_182 0 190 (dk_at dksX1_number_3 9 rfl rfl)
theorem dX1_number_139 : decode cX1_number 139 = .ok (.goto 129, 3) := dk_167 0 129 (dk_at dksX1_number_3 12 rfl rfl)
theorem dX1_number_142 : decode cX1_number 142 = .ok (.aload_n 2, 1) := dk_44 (dk_at dksX1_number_3 15 rfl rfl)
theorem dX1_number_143 : decode cX1_number 143 = .ok (.invokedynamic 317, 5) := by decide +kernel
theorem dX1_number_148 : decode cX1_number 148 = .ok (.invokevirtual 321, 3) := dk_182 1 65 (dk_at dksX1_number_3 21 rfl rfl)
theorem dX1_number_151 : decode cX1_number 151 = .ok (.goto 117, 3) := dk_167 0 117 (dk_at dksX1_number_4 0 rfl rfl)
theorem dX1_number_154 : decode cX1_number 154 = .ok (.aload_n 2, 1) := dk_44 (dk_at dksX1_number_4 3 rfl rfl)
theorem dX1_number_155 : decode cX1_number 155 = .ok (.getfield 325, 3) := dk_180 1 69 (dk_at dksX1_number_4 4 rfl rfl)
theorem dX1_number_158 : decode cX1_number 158 = .ok (.goto 110, 3) := dk_167 0 110 (dk_at dksX1_number_4 7 rfl rfl)
theorem dX1_number_161 : decode cX1_number 161 = .ok (.aload_n 2, 1) := dk_44 (dk_at dksX1_number_4 10 rfl rfl)
theorem dX1_number_162 : decode cX1_number 162 = .ok (.getfield 328, 3) := dk_180 1 72 (dk_at dksX1_number_4 11 rfl rfl)
theorem dX1_number_165 : decode cX1_number 165 = .ok (.goto 103, 3) := dk_167 0 103 (dk_at dksX1_number_4 14 rfl rfl)
theorem dX1_number_168 : decode cX1_number 168 = .ok (.aload_n 2, 1) := dk_44 (dk_at dksX1_number_4 17 rfl rfl)
theorem dX1_number_169 : decode cX1_number 169 = .ok (.getfield 331, 3) := dk_180 1 75 (dk_at dksX1_number_4 18 rfl rfl)
theorem dX1_number_172 : decode cX1_number 172 = .ok (.goto 96, 3) := dk_167 0 96 (dk_at dksX1_number_4 21 rfl rfl)
theorem dX1_number_175 : decode cX1_number 175 = .ok (.aload_n 2, 1) := dk_44 (dk_at dksX1_number_5 0 rfl rfl)
theorem dX1_number_176 : decode cX1_number 176 = .ok (.getfield 182, 3) := dk_180 0 182 (dk_at dksX1_number_5 1 rfl rfl)
theorem dX1_number_179 : decode cX1_number 179 = .ok (.invokestatic 332, 3) := dk_184 1 76 (dk_at dksX1_number_5 4 rfl rfl)
theorem dX1_number_182 : decode cX1_number 182 = .ok (.goto 86, 3) := dk_167 0 86 (dk_at dksX1_number_5 7 rfl rfl)
theorem dX1_number_185 : decode cX1_number 185 = .ok (.aload_n 2, 1) := dk_44 (dk_at dksX1_number_5 10 rfl rfl)
theorem dX1_number_186 : decode cX1_number 186 = .ok (.getfield 336, 3) := dk_180 1 80 (dk_at dksX1_number_5 11 rfl rfl)
theorem dX1_number_189 : decode cX1_number 189 = .ok (.goto 79, 3) := dk_167 0 79 (dk_at dksX1_number_5 14 rfl rfl)
theorem dX1_number_192 : decode cX1_number 192 = .ok (.aload_n 2, 1) := dk_44 (dk_at dksX1_number_5 17 rfl rfl)
theorem dX1_number_193 : decode cX1_number 193 = .ok (.getfield 339, 3) := dk_180 1 83 (dk_at dksX1_number_5 18 rfl rfl)
theorem dX1_number_196 : decode cX1_number 196 = .ok (.goto 72, 3) := dk_167 0 72 (dk_at dksX1_number_5 21 rfl rfl)
theorem dX1_number_199 : decode cX1_number 199 = .ok (.aload_n 2, 1) := dk_44 (dk_at dksX1_number_6 0 rfl rfl)
theorem dX1_number_200 : decode cX1_number 200 = .ok (.getfield 342, 3) := dk_180 1 86 (dk_at dksX1_number_6 1 rfl rfl)
theorem dX1_number_203 : decode cX1_number 203 = .ok (.goto 65, 3) := dk_167 0 65 (dk_at dksX1_number_6 4 rfl rfl)
theorem dX1_number_206 : decode cX1_number 206 = .ok (.aload_n 2, 1) := dk_44 (dk_at dksX1_number_6 7 rfl rfl)
theorem dX1_number_207 : decode cX1_number 207 = .ok (.getfield 213, 3) := dk_180 0 213 (dk_at dksX1_number_6 8 rfl rfl)
theorem dX1_number_210 : decode cX1_number 210 = .ok (.invokeinterface 161 1, 5) := by decide +kernel
theorem dX1_number_215 : decode cX1_number 215 = .ok (.goto 53, 3) := dk_167 0 53 (dk_at dksX1_number_6 16 rfl rfl)
theorem dX1_number_218 : decode cX1_number 218 = .ok (.aload_n 2, 1) := dk_44 (dk_at dksX1_number_6 19 rfl rfl)
theorem dX1_number_219 : decode cX1_number 219 = .ok (.getfield 194, 3) := dk_180 0 194 (dk_at dksX1_number_6 20 rfl rfl)
theorem dX1_number_222 : decode cX1_number 222 = .ok (.invokeinterface 161 1, 5) := by decide +kernel
theorem dX1_number_227 : decode cX1_number 227 = .ok (.goto 41, 3) := dk_167 0 41 (dk_at dksX1_number_7 5 rfl rfl)
theorem dX1_number_230 : decode cX1_number 230 = .ok (.aload_n 0, 1) := dk_42 (dk_at dksX1_number_7 8 rfl rfl)
theorem dX1_number_231 : decode cX1_number 231 = .ok (.invokevirtual 345, 3) := dk_182 1 89 (dk_at dksX1_number_7 9 rfl rfl)
theorem dX1_number_234 : decode cX1_number 234 = .ok (.goto 34, 3) := dk_167 0 34 (dk_at dksX1_number_7 12 rfl rfl)
theorem dX1_number_237 : decode cX1_number 237 = .ok (.aload_n 2, 1) := dk_44 (dk_at dksX1_number_7 15 rfl rfl)
theorem dX1_number_238 : decode cX1_number 238 = .ok (.getfield 347, 3) := dk_180 1 91 (dk_at dksX1_number_7 16 rfl rfl)
theorem dX1_number_241 : decode cX1_number 241 = .ok (.goto 27, 3) := dk_167 0 27 (dk_at dksX1_number_7 19 rfl rfl)
theorem dX1_number_244 : decode cX1_number 244 = .ok (.aload_n 2, 1) := dk_44 (dk_at dksX1_number_7 22 rfl rfl)
theorem dX1_number_245 : decode cX1_number 245 = .ok (.getfield 350, 3) := dk_180 1 94 (dk_at dksX1_number_8 0 rfl rfl)
theorem dX1_number_248 : decode cX1_number 248 = .ok (.goto 20, 3) := dk_167 0 20 (dk_at dksX1_number_8 3 rfl rfl)
theorem dX1_number_251 : decode cX1_number 251 = .ok (.aload_n 0, 1) := dk_42 (dk_at dksX1_number_8 6 rfl rfl)
theorem dX1_number_252 : decode cX1_number 252 = .ok (.getfield 36, 3) := dk_180 0 36 (dk_at dksX1_number_8 7 rfl rfl)
theorem dX1_number_255 : decode cX1_number 255 = .ok (.invokevirtual 60, 3) := dk_182 0 60 (dk_at dksX1_number_8 10 rfl rfl)
theorem dX1_number_258 : decode cX1_number 258 = .ok (.goto 10, 3) := dk_167 0 10 (dk_at dksX1_number_8 13 rfl rfl)
theorem dX1_number_261 : decode cX1_number 261 = .ok (.aload_n 0, 1) := dk_42 (dk_at dksX1_number_8 16 rfl rfl)
theorem dX1_number_262 : decode cX1_number 262 = .ok (.getfield 43, 3) := dk_180 0 43 (dk_at dksX1_number_8 17 rfl rfl)
theorem dX1_number_265 : decode cX1_number 265 = .ok (.invokevirtual 353, 3) := dk_182 1 97 (dk_at dksX1_number_8 20 rfl rfl)
theorem dX1_number_268 : decode cX1_number 268 = .ok (.ireturn, 1) := dk_172 (dk_at dksX1_number_8 23 rfl rfl)
abbrev cX1_lambda_number_12 : ByteArray := prog_1_method_55_code
def yX1_lambda_number_12 : MethodName := ⟨RX1, "lambda$number$12", "(LPeacockLawns$Bird;)Z"⟩
theorem dX1_lambda_number_12_0 : decode cX1_lambda_number_12 0 = .ok (.aload_n 0, 1) := by decide +kernel
theorem dX1_lambda_number_12_1 : decode cX1_lambda_number_12 1 = .ok (.invokevirtual 411, 3) := by decide +kernel
theorem dX1_lambda_number_12_4 : decode cX1_lambda_number_12 4 = .ok (.ireturn, 1) := by decide +kernel
abbrev cX1_lambda_number_13 : ByteArray := prog_1_method_54_code
def yX1_lambda_number_13 : MethodName := ⟨RX1, "lambda$number$13", "(LPeacockLawns$Bird;)I"⟩
def dkwX1_lambda_number_13_0 : List UInt8 := [42, 180, 0, 125, 153, 0, 10, 42, 180, 0, 132, 167, 0, 4, 3, 172]
abbrev dktX1_lambda_number_13_0 : List UInt8 := dkwX1_lambda_number_13_0 ++ []
theorem dksX1_lambda_number_13_0 : cX1_lambda_number_13.data.toList.drop 0 = dktX1_lambda_number_13_0 := by decide +kernel
theorem dX1_lambda_number_13_0 : decode cX1_lambda_number_13 0 = .ok (.aload_n 0, 1) := dk_42 (dk_at dksX1_lambda_number_13_0 0 rfl rfl)
theorem dX1_lambda_number_13_1 : decode cX1_lambda_number_13 1 = .ok (.getfield 125, 3) := dk_180 0 125 (dk_at dksX1_lambda_number_13_0 1 rfl rfl)
theorem dX1_lambda_number_13_4 : decode cX1_lambda_number_13 4 = .ok (.ifCond .eq 10, 3) := dk_153 0 10 (dk_at dksX1_lambda_number_13_0 4 rfl rfl)
theorem dX1_lambda_number_13_7 : decode cX1_lambda_number_13 7 = .ok (.aload_n 0, 1) := dk_42 (dk_at dksX1_lambda_number_13_0 7 rfl rfl)
theorem dX1_lambda_number_13_8 : decode cX1_lambda_number_13 8 = .ok (.getfield 132, 3) := dk_180 0 132 (dk_at dksX1_lambda_number_13_0 8 rfl rfl)
theorem dX1_lambda_number_13_11 : decode cX1_lambda_number_13 11 = .ok (.goto 4, 3) := dk_167 0 4 (dk_at dksX1_lambda_number_13_0 11 rfl rfl)
theorem dX1_lambda_number_13_14 : decode cX1_lambda_number_13 14 = .ok (.iconst 0, 1) := dk_3 (dk_at dksX1_lambda_number_13_0 14 rfl rfl)
theorem dX1_lambda_number_13_15 : decode cX1_lambda_number_13 15 = .ok (.ireturn, 1) := dk_172 (dk_at dksX1_lambda_number_13_0 15 rfl rfl)
abbrev cX1_visitors : ByteArray := prog_1_method_40_code
def yX1_visitors : MethodName := ⟨RX1, "visitors", "()I"⟩
def dkwX1_visitors_1 : List UInt8 := [44, 185, 0, 207, 1, 0, 192, 0, 210, 78, 27, 45, 180, 1, 3, 96, 60, 167, 255, 230, 27, 172]
abbrev dktX1_visitors_1 : List UInt8 := dkwX1_visitors_1 ++ []
def dkwX1_visitors_0 : List UInt8 := [3, 60, 42, 180, 0, 27, 180, 0, 194, 185, 0, 197, 1, 0, 77, 44, 185, 0, 201, 1, 0, 153, 0, 23]
abbrev dktX1_visitors_0 : List UInt8 := dkwX1_visitors_0 ++ dktX1_visitors_1
theorem dksX1_visitors_0 : cX1_visitors.data.toList.drop 0 = dktX1_visitors_0 := by decide +kernel
theorem dksX1_visitors_1 : cX1_visitors.data.toList.drop 24 = dktX1_visitors_1 := dk_seg dksX1_visitors_0 24 rfl rfl
theorem dX1_visitors_0 : decode cX1_visitors 0 = .ok (.iconst 0, 1) := dk_3 (dk_at dksX1_visitors_0 0 rfl rfl)
theorem dX1_visitors_1 : decode cX1_visitors 1 = .ok (.istore_n 1, 1) := dk_60 (dk_at dksX1_visitors_0 1 rfl rfl)
theorem dX1_visitors_2 : decode cX1_visitors 2 = .ok (.aload_n 0, 1) := dk_42 (dk_at dksX1_visitors_0 2 rfl rfl)
theorem dX1_visitors_3 : decode cX1_visitors 3 = .ok (.getfield 27, 3) := dk_180 0 27 (dk_at dksX1_visitors_0 3 rfl rfl)
theorem dX1_visitors_6 : decode cX1_visitors 6 = .ok (.getfield 194, 3) := dk_180 0 194 (dk_at dksX1_visitors_0 6 rfl rfl)
theorem dX1_visitors_9 : decode cX1_visitors 9 = .ok (.invokeinterface 197 1, 5) := by decide +kernel
theorem dX1_visitors_14 : decode cX1_visitors 14 = .ok (.astore_n 2, 1) := dk_77 (dk_at dksX1_visitors_0 14 rfl rfl)
theorem dX1_visitors_15 : decode cX1_visitors 15 = .ok (.aload_n 2, 1) := dk_44 (dk_at dksX1_visitors_0 15 rfl rfl)
theorem dX1_visitors_16 : decode cX1_visitors 16 = .ok (.invokeinterface 201 1, 5) := by decide +kernel
theorem dX1_visitors_21 : decode cX1_visitors 21 = .ok (.ifCond .eq 23, 3) := dk_153 0 23 (dk_at dksX1_visitors_0 21 rfl rfl)
theorem dX1_visitors_24 : decode cX1_visitors 24 = .ok (.aload_n 2, 1) := dk_44 (dk_at dksX1_visitors_1 0 rfl rfl)
theorem dX1_visitors_25 : decode cX1_visitors 25 = .ok (.invokeinterface 207 1, 5) := by decide +kernel
theorem dX1_visitors_30 : decode cX1_visitors 30 = .ok (.checkcast 210, 3) := dk_192 0 210 (dk_at dksX1_visitors_1 6 rfl rfl)
theorem dX1_visitors_33 : decode cX1_visitors 33 = .ok (.astore_n 3, 1) := dk_78 (dk_at dksX1_visitors_1 9 rfl rfl)
theorem dX1_visitors_34 : decode cX1_visitors 34 = .ok (.iload_n 1, 1) := dk_27 (dk_at dksX1_visitors_1 10 rfl rfl)
theorem dX1_visitors_35 : decode cX1_visitors 35 = .ok (.aload_n 3, 1) := dk_45 (dk_at dksX1_visitors_1 11 rfl rfl)
theorem dX1_visitors_36 : decode cX1_visitors 36 = .ok (.getfield 259, 3) := dk_180 1 3 (dk_at dksX1_visitors_1 12 rfl rfl)
theorem dX1_visitors_39 : decode cX1_visitors 39 = .ok (.iadd, 1) := dk_96 (dk_at dksX1_visitors_1 15 rfl rfl)
theorem dX1_visitors_40 : decode cX1_visitors 40 = .ok (.istore_n 1, 1) := dk_60 (dk_at dksX1_visitors_1 16 rfl rfl)
theorem dX1_visitors_41 : decode cX1_visitors 41 = .ok (.goto (-26), 3) := dk_167 255 230 (dk_at dksX1_visitors_1 17 rfl rfl)
theorem dX1_visitors_44 : decode cX1_visitors 44 = .ok (.iload_n 1, 1) := dk_27 (dk_at dksX1_visitors_1 20 rfl rfl)
theorem dX1_visitors_45 : decode cX1_visitors 45 = .ok (.ireturn, 1) := dk_172 (dk_at dksX1_visitors_1 21 rfl rfl)
abbrev cX1_foundShare : ByteArray := prog_1_method_44_code
def yX1_foundShare : MethodName := ⟨RX1, "foundShare", "()F"⟩
def dkwX1_foundShare_1 : List UInt8 := [180, 1, 80, 42, 180, 0, 27, 180, 1, 86, 96, 134, 42, 180, 0, 27, 180, 1, 75, 134, 110, 174]
abbrev dktX1_foundShare_1 : List UInt8 := dkwX1_foundShare_1 ++ []
def dkwX1_foundShare_0 : List UInt8 := [42, 180, 0, 27, 180, 1, 75, 154, 0, 11, 187, 1, 100, 89, 183, 1, 102, 191, 42, 180, 0, 27]
abbrev dktX1_foundShare_0 : List UInt8 := dkwX1_foundShare_0 ++ dktX1_foundShare_1
theorem dksX1_foundShare_0 : cX1_foundShare.data.toList.drop 0 = dktX1_foundShare_0 := by decide +kernel
theorem dksX1_foundShare_1 : cX1_foundShare.data.toList.drop 22 = dktX1_foundShare_1 := dk_seg dksX1_foundShare_0 22 rfl rfl
theorem dX1_foundShare_0 : decode cX1_foundShare 0 = .ok (.aload_n 0, 1) := dk_42 (dk_at dksX1_foundShare_0 0 rfl rfl)
theorem dX1_foundShare_1 : decode cX1_foundShare 1 = .ok (.getfield 27, 3) := dk_180 0 27 (dk_at dksX1_foundShare_0 1 rfl rfl)
theorem dX1_foundShare_4 : decode cX1_foundShare 4 = .ok (.getfield 331, 3) := dk_180 1 75 (dk_at dksX1_foundShare_0 4 rfl rfl)
theorem dX1_foundShare_7 : decode cX1_foundShare 7 = .ok (.ifCond .ne 11, 3) := dk_154 0 11 (dk_at dksX1_foundShare_0 7 rfl rfl)
theorem dX1_foundShare_10 : decode cX1_foundShare 10 = .ok (.new 356, 3) := dk_187 1 100 (dk_at dksX1_foundShare_0 10 rfl rfl)
theorem dX1_foundShare_13 : decode cX1_foundShare 13 = .ok (.dup, 1) := dk_89 (dk_at dksX1_foundShare_0 13 rfl rfl)
theorem dX1_foundShare_14 : decode cX1_foundShare 14 = .ok (.invokespecial 358, 3) := dk_183 1 102 (dk_at dksX1_foundShare_0 14 rfl rfl)
theorem dX1_foundShare_17 : decode cX1_foundShare 17 = .ok (.athrow, 1) := dk_191 (dk_at dksX1_foundShare_0 17 rfl rfl)
theorem dX1_foundShare_18 : decode cX1_foundShare 18 = .ok (.aload_n 0, 1) := dk_42 (dk_at dksX1_foundShare_0 18 rfl rfl)
theorem dX1_foundShare_19 : decode cX1_foundShare 19 = .ok (.getfield 27, 3) := dk_180 0 27 (dk_at dksX1_foundShare_0 19 rfl rfl)
theorem dX1_foundShare_22 : decode cX1_foundShare 22 = .ok (.getfield 336, 3) := dk_180 1 80 (dk_at dksX1_foundShare_1 0 rfl rfl)
theorem dX1_foundShare_25 : decode cX1_foundShare 25 = .ok (.aload_n 0, 1) := dk_42 (dk_at dksX1_foundShare_1 3 rfl rfl)
theorem dX1_foundShare_26 : decode cX1_foundShare 26 = .ok (.getfield 27, 3) := dk_180 0 27 (dk_at dksX1_foundShare_1 4 rfl rfl)
theorem dX1_foundShare_29 : decode cX1_foundShare 29 = .ok (.getfield 342, 3) := dk_180 1 86 (dk_at dksX1_foundShare_1 7 rfl rfl)
theorem dX1_foundShare_32 : decode cX1_foundShare 32 = .ok (.iadd, 1) := dk_96 (dk_at dksX1_foundShare_1 10 rfl rfl)
theorem dX1_foundShare_33 : decode cX1_foundShare 33 = .ok (.i2f, 1) := dk_134 (dk_at dksX1_foundShare_1 11 rfl rfl)
theorem dX1_foundShare_34 : decode cX1_foundShare 34 = .ok (.aload_n 0, 1) := dk_42 (dk_at dksX1_foundShare_1 12 rfl rfl)
theorem dX1_foundShare_35 : decode cX1_foundShare 35 = .ok (.getfield 27, 3) := dk_180 0 27 (dk_at dksX1_foundShare_1 13 rfl rfl)
theorem dX1_foundShare_38 : decode cX1_foundShare 38 = .ok (.getfield 331, 3) := dk_180 1 75 (dk_at dksX1_foundShare_1 16 rfl rfl)
theorem dX1_foundShare_41 : decode cX1_foundShare 41 = .ok (.i2f, 1) := dk_134 (dk_at dksX1_foundShare_1 19 rfl rfl)
theorem dX1_foundShare_42 : decode cX1_foundShare 42 = .ok (.fdiv, 1) := dk_110 (dk_at dksX1_foundShare_1 20 rfl rfl)
theorem dX1_foundShare_43 : decode cX1_foundShare 43 = .ok (.freturn, 1) := dk_174 (dk_at dksX1_foundShare_1 21 rfl rfl)
abbrev cX1_feed : ByteArray := prog_1_method_45_code
def yX1_feed : MethodName := ⟨RX1, "feed", "(C)I"⟩
def dkwX1_feed_1 : List UInt8 := [27, 182, 1, 23, 87, 42, 180, 0, 43, 182, 1, 97, 172]
abbrev dktX1_feed_1 : List UInt8 := dkwX1_feed_1 ++ []
def dkwX1_feed_0 : List UInt8 := [42, 180, 0, 43, 182, 1, 97, 16, 60, 162, 0, 7, 4, 167, 0, 4, 3, 184, 1, 103, 42, 180, 0, 43]
abbrev dktX1_feed_0 : List UInt8 := dkwX1_feed_0 ++ dktX1_feed_1
theorem dksX1_feed_0 : cX1_feed.data.toList.drop 0 = dktX1_feed_0 := by decide +kernel
theorem dksX1_feed_1 : cX1_feed.data.toList.drop 24 = dktX1_feed_1 := dk_seg dksX1_feed_0 24 rfl rfl
theorem dX1_feed_0 : decode cX1_feed 0 = .ok (.aload_n 0, 1) := dk_42 (dk_at dksX1_feed_0 0 rfl rfl)
theorem dX1_feed_1 : decode cX1_feed 1 = .ok (.getfield 43, 3) := dk_180 0 43 (dk_at dksX1_feed_0 1 rfl rfl)
theorem dX1_feed_4 : decode cX1_feed 4 = .ok (.invokevirtual 353, 3) := dk_182 1 97 (dk_at dksX1_feed_0 4 rfl rfl)
theorem dX1_feed_7 : decode cX1_feed 7 = .ok (.bipush 60, 2) := dk_16 60 (dk_at dksX1_feed_0 7 rfl rfl)
theorem dX1_feed_9 : decode cX1_feed 9 = .ok (.if_icmp .ge 7, 3) := dk_162 0 7 (dk_at dksX1_feed_0 9 rfl rfl)
theorem dX1_feed_12 : decode cX1_feed 12 = .ok (.iconst 1, 1) := dk_4 (dk_at dksX1_feed_0 12 rfl rfl)
theorem dX1_feed_13 : decode cX1_feed 13 = .ok (.goto 4, 3) := dk_167 0 4 (dk_at dksX1_feed_0 13 rfl rfl)
theorem dX1_feed_16 : decode cX1_feed 16 = .ok (.iconst 0, 1) := dk_3 (dk_at dksX1_feed_0 16 rfl rfl)
theorem dX1_feed_17 : decode cX1_feed 17 = .ok (.invokestatic 359, 3) := dk_184 1 103 (dk_at dksX1_feed_0 17 rfl rfl)
theorem dX1_feed_20 : decode cX1_feed 20 = .ok (.aload_n 0, 1) := dk_42 (dk_at dksX1_feed_0 20 rfl rfl)
theorem dX1_feed_21 : decode cX1_feed 21 = .ok (.getfield 43, 3) := dk_180 0 43 (dk_at dksX1_feed_0 21 rfl rfl)
theorem dX1_feed_24 : decode cX1_feed 24 = .ok (.iload_n 1, 1) := dk_27 (dk_at dksX1_feed_1 0 rfl rfl)
theorem dX1_feed_25 : decode cX1_feed 25 = .ok (.invokevirtual 279, 3) := dk_182 1 23 (dk_at dksX1_feed_1 1 rfl rfl)
theorem dX1_feed_28 : decode cX1_feed 28 = .ok (.pop, 1) := dk_87 (dk_at dksX1_feed_1 4 rfl rfl)
theorem dX1_feed_29 : decode cX1_feed 29 = .ok (.aload_n 0, 1) := dk_42 (dk_at dksX1_feed_1 5 rfl rfl)
theorem dX1_feed_30 : decode cX1_feed 30 = .ok (.getfield 43, 3) := dk_180 0 43 (dk_at dksX1_feed_1 6 rfl rfl)
theorem dX1_feed_33 : decode cX1_feed 33 = .ok (.invokevirtual 353, 3) := dk_182 1 97 (dk_at dksX1_feed_1 9 rfl rfl)
theorem dX1_feed_36 : decode cX1_feed 36 = .ok (.ireturn, 1) := dk_172 (dk_at dksX1_feed_1 12 rfl rfl)
abbrev cX1_requireState : ByteArray := prog_1_method_4_code
def yX1_requireState : MethodName := ⟨RX1, "requireState", "(Z)V"⟩
def dkwX1_requireState_0 : List UInt8 := [26, 154, 0, 11, 187, 0, 10, 89, 183, 0, 12, 191, 177]
abbrev dktX1_requireState_0 : List UInt8 := dkwX1_requireState_0 ++ []
theorem dksX1_requireState_0 : cX1_requireState.data.toList.drop 0 = dktX1_requireState_0 := by decide +kernel
theorem dX1_requireState_0 : decode cX1_requireState 0 = .ok (.iload_n 0, 1) := dk_26 (dk_at dksX1_requireState_0 0 rfl rfl)
theorem dX1_requireState_1 : decode cX1_requireState 1 = .ok (.ifCond .ne 11, 3) := dk_154 0 11 (dk_at dksX1_requireState_0 1 rfl rfl)
theorem dX1_requireState_4 : decode cX1_requireState 4 = .ok (.new 10, 3) := dk_187 0 10 (dk_at dksX1_requireState_0 4 rfl rfl)
theorem dX1_requireState_7 : decode cX1_requireState 7 = .ok (.dup, 1) := dk_89 (dk_at dksX1_requireState_0 7 rfl rfl)
theorem dX1_requireState_8 : decode cX1_requireState 8 = .ok (.invokespecial 12, 3) := dk_183 0 12 (dk_at dksX1_requireState_0 8 rfl rfl)
theorem dX1_requireState_11 : decode cX1_requireState 11 = .ok (.athrow, 1) := dk_191 (dk_at dksX1_requireState_0 11 rfl rfl)
theorem dX1_requireState_12 : decode cX1_requireState 12 = .ok (.return_, 1) := dk_177 (dk_at dksX1_requireState_0 12 rfl rfl)
abbrev cX1_read : ByteArray := prog_1_method_48_code
def yX1_read : MethodName := ⟨RX1, "read", "()I"⟩
def dkwX1_read_2 : List UInt8 := [172]
abbrev dktX1_read_2 : List UInt8 := dkwX1_read_2 ++ []
def dkwX1_read_1 : List UInt8 := [184, 1, 129, 167, 0, 10, 78, 42, 45, 182, 0, 92, 191, 42, 44, 182, 0, 89, 43, 185, 0, 161, 1, 0]
abbrev dktX1_read_1 : List UInt8 := dkwX1_read_1 ++ dktX1_read_2
def dkwX1_read_0 : List UInt8 := [42, 182, 1, 127, 76, 43, 198, 0, 7, 4, 167, 0, 4, 3, 184, 0, 121, 42, 182, 0, 79, 77, 43, 44]
abbrev dktX1_read_0 : List UInt8 := dkwX1_read_0 ++ dktX1_read_1
theorem dksX1_read_0 : cX1_read.data.toList.drop 0 = dktX1_read_0 := by decide +kernel
theorem dksX1_read_1 : cX1_read.data.toList.drop 24 = dktX1_read_1 := dk_seg dksX1_read_0 24 rfl rfl
theorem dksX1_read_2 : cX1_read.data.toList.drop 48 = dktX1_read_2 := dk_seg dksX1_read_1 24 rfl rfl
theorem dX1_read_0 : decode cX1_read 0 = .ok (.aload_n 0, 1) := dk_42 (dk_at dksX1_read_0 0 rfl rfl)
theorem dX1_read_1 : decode cX1_read 1 = .ok (.invokevirtual 383, 3) := dk_182 1 127 (dk_at dksX1_read_0 1 rfl rfl)
theorem dX1_read_4 : decode cX1_read 4 = .ok (.astore_n 1, 1) := dk_76 (dk_at dksX1_read_0 4 rfl rfl)
theorem dX1_read_5 : decode cX1_read 5 = .ok (.aload_n 1, 1) := dk_43 (dk_at dksX1_read_0 5 rfl rfl)
theorem dX1_read_6 : decode cX1_read 6 = .ok (.ifnull 7, 3) := dk_198 0 7 (dk_at dksX1_read_0 6 rfl rfl)
theorem dX1_read_9 : decode cX1_read 9 = .ok (.iconst 1, 1) := dk_4 (dk_at dksX1_read_0 9 rfl rfl)
theorem dX1_read_10 : decode cX1_read 10 = .ok (.goto 4, 3) := dk_167 0 4 (dk_at dksX1_read_0 10 rfl rfl)
theorem dX1_read_13 : decode cX1_read 13 = .ok (.iconst 0, 1) := dk_3 (dk_at dksX1_read_0 13 rfl rfl)
theorem dX1_read_14 : decode cX1_read 14 = .ok (.invokestatic 121, 3) := dk_184 0 121 (dk_at dksX1_read_0 14 rfl rfl)
theorem dX1_read_17 : decode cX1_read 17 = .ok (.aload_n 0, 1) := dk_42 (dk_at dksX1_read_0 17 rfl rfl)
theorem dX1_read_18 : decode cX1_read 18 = .ok (.invokevirtual 79, 3) := dk_182 0 79 (dk_at dksX1_read_0 18 rfl rfl)
theorem dX1_read_21 : decode cX1_read 21 = .ok (.astore_n 2, 1) := dk_77 (dk_at dksX1_read_0 21 rfl rfl)
theorem dX1_read_22 : decode cX1_read 22 = .ok (.aload_n 1, 1) := dk_43 (dk_at dksX1_read_0 22 rfl rfl)
theorem dX1_read_23 : decode cX1_read 23 = .ok (.aload_n 2, 1) := dk_44 (dk_at dksX1_read_0 23 rfl rfl)
theorem dX1_read_24 : decode cX1_read 24 = .ok (.invokestatic 385, 3) := dk_184 1 129 (dk_at dksX1_read_1 0 rfl rfl)
theorem dX1_read_27 : decode cX1_read 27 = .ok (.goto 10, 3) := dk_167 0 10 (dk_at dksX1_read_1 3 rfl rfl)
theorem dX1_read_30 : decode cX1_read 30 = .ok (.astore_n 3, 1) := dk_78 (dk_at dksX1_read_1 6 rfl rfl)
theorem dX1_read_31 : decode cX1_read 31 = .ok (.aload_n 0, 1) := dk_42 (dk_at dksX1_read_1 7 rfl rfl)
theorem dX1_read_32 : decode cX1_read 32 = .ok (.aload_n 3, 1) := dk_45 (dk_at dksX1_read_1 8 rfl rfl)
theorem dX1_read_33 : decode cX1_read 33 = .ok (.invokevirtual 92, 3) := dk_182 0 92 (dk_at dksX1_read_1 9 rfl rfl)
theorem dX1_read_36 : decode cX1_read 36 = .ok (.athrow, 1) := dk_191 (dk_at dksX1_read_1 12 rfl rfl)
theorem dX1_read_37 : decode cX1_read 37 = .ok (.aload_n 0, 1) := dk_42 (dk_at dksX1_read_1 13 rfl rfl)
theorem dX1_read_38 : decode cX1_read 38 = .ok (.aload_n 2, 1) := dk_44 (dk_at dksX1_read_1 14 rfl rfl)
theorem dX1_read_39 : decode cX1_read 39 = .ok (.invokevirtual 89, 3) := dk_182 0 89 (dk_at dksX1_read_1 15 rfl rfl)
theorem dX1_read_42 : decode cX1_read 42 = .ok (.aload_n 1, 1) := dk_43 (dk_at dksX1_read_1 18 rfl rfl)
theorem dX1_read_43 : decode cX1_read 43 = .ok (.invokeinterface 161 1, 5) := by decide +kernel
theorem dX1_read_48 : decode cX1_read 48 = .ok (.ireturn, 1) := dk_172 (dk_at dksX1_read_2 0 rfl rfl)
abbrev cX1_taken : ByteArray := prog_1_method_46_code
def yX1_taken : MethodName := ⟨RX1, "taken", "()Ljava/util/List;"⟩
def dkwX1_taken_2 : List UInt8 := [3, 182, 1, 115, 45, 191]
abbrev dktX1_taken_2 : List UInt8 := dkwX1_taken_2 ++ []
def dkwX1_taken_1 : List UInt8 := [43, 180, 1, 121, 181, 0, 53, 1, 77, 42, 180, 0, 43, 3, 182, 1, 115, 44, 176, 78, 42, 180, 0, 43]
abbrev dktX1_taken_1 : List UInt8 := dkwX1_taken_1 ++ dktX1_taken_2
def dkwX1_taken_0 : List UInt8 := [187, 1, 106, 89, 42, 183, 1, 108, 182, 1, 111, 76, 42, 180, 0, 43, 3, 182, 1, 115, 43, 176, 76, 42]
abbrev dktX1_taken_0 : List UInt8 := dkwX1_taken_0 ++ dktX1_taken_1
theorem dksX1_taken_0 : cX1_taken.data.toList.drop 0 = dktX1_taken_0 := by decide +kernel
theorem dksX1_taken_1 : cX1_taken.data.toList.drop 24 = dktX1_taken_1 := dk_seg dksX1_taken_0 24 rfl rfl
theorem dksX1_taken_2 : cX1_taken.data.toList.drop 48 = dktX1_taken_2 := dk_seg dksX1_taken_1 24 rfl rfl
theorem dX1_taken_0 : decode cX1_taken 0 = .ok (.new 362, 3) := dk_187 1 106 (dk_at dksX1_taken_0 0 rfl rfl)
theorem dX1_taken_3 : decode cX1_taken 3 = .ok (.dup, 1) := dk_89 (dk_at dksX1_taken_0 3 rfl rfl)
theorem dX1_taken_4 : decode cX1_taken 4 = .ok (.aload_n 0, 1) := dk_42 (dk_at dksX1_taken_0 4 rfl rfl)
theorem dX1_taken_5 : decode cX1_taken 5 = .ok (.invokespecial 364, 3) := dk_183 1 108 (dk_at dksX1_taken_0 5 rfl rfl)
theorem dX1_taken_8 : decode cX1_taken 8 = .ok (.invokevirtual 367, 3) := dk_182 1 111 (dk_at dksX1_taken_0 8 rfl rfl)
theorem dX1_taken_11 : decode cX1_taken 11 = .ok (.astore_n 1, 1) := dk_76 (dk_at dksX1_taken_0 11 rfl rfl)
theorem dX1_taken_12 : decode cX1_taken 12 = .ok (.aload_n 0, 1) := dk_42 (dk_at dksX1_taken_0 12 rfl rfl)
theorem dX1_taken_13 : decode cX1_taken 13 = .ok (.getfield 43, 3) := dk_180 0 43 (dk_at dksX1_taken_0 13 rfl rfl)
theorem dX1_taken_16 : decode cX1_taken 16 = .ok (.iconst 0, 1) := dk_3 (dk_at dksX1_taken_0 16 rfl rfl)
theorem dX1_taken_17 : decode cX1_taken 17 = .ok (.invokevirtual 371, 3) := dk_182 1 115 (dk_at dksX1_taken_0 17 rfl rfl)
theorem dX1_taken_20 : decode cX1_taken 20 = .ok (.aload_n 1, 1) := dk_43 (dk_at dksX1_taken_0 20 rfl rfl)
theorem dX1_taken_21 : decode cX1_taken 21 = .ok (.areturn, 1) := dk_176 (dk_at dksX1_taken_0 21 rfl rfl)
theorem dX1_taken_22 : decode cX1_taken 22 = .ok (.astore_n 1, 1) := dk_76 (dk_at dksX1_taken_0 22 rfl rfl)
theorem dX1_taken_23 : decode cX1_taken 23 = .ok (.aload_n 0, 1) := dk_42 (dk_at dksX1_taken_0 23 rfl rfl)
theorem dX1_taken_24 : decode cX1_taken 24 = .ok (.aload_n 1, 1) := dk_43 (dk_at dksX1_taken_1 0 rfl rfl)
theorem dX1_taken_25 : decode cX1_taken 25 = .ok (.getfield 377, 3) := dk_180 1 121 (dk_at dksX1_taken_1 1 rfl rfl)
theorem dX1_taken_28 : decode cX1_taken 28 = .ok (.putfield 53, 3) := dk_181 0 53 (dk_at dksX1_taken_1 4 rfl rfl)
theorem dX1_taken_31 : decode cX1_taken 31 = .ok (.aconst_null, 1) := dk_1 (dk_at dksX1_taken_1 7 rfl rfl)
theorem dX1_taken_32 : decode cX1_taken 32 = .ok (.astore_n 2, 1) := dk_77 (dk_at dksX1_taken_1 8 rfl rfl)
theorem dX1_taken_33 : decode cX1_taken 33 = .ok (.aload_n 0, 1) := dk_42 (dk_at dksX1_taken_1 9 rfl rfl)
theorem dX1_taken_34 : decode cX1_taken 34 = .ok (.getfield 43, 3) := dk_180 0 43 (dk_at dksX1_taken_1 10 rfl rfl)
theorem dX1_taken_37 : decode cX1_taken 37 = .ok (.iconst 0, 1) := dk_3 (dk_at dksX1_taken_1 13 rfl rfl)
theorem dX1_taken_38 : decode cX1_taken 38 = .ok (.invokevirtual 371, 3) := dk_182 1 115 (dk_at dksX1_taken_1 14 rfl rfl)
theorem dX1_taken_41 : decode cX1_taken 41 = .ok (.aload_n 2, 1) := dk_44 (dk_at dksX1_taken_1 17 rfl rfl)
theorem dX1_taken_42 : decode cX1_taken 42 = .ok (.areturn, 1) := dk_176 (dk_at dksX1_taken_1 18 rfl rfl)
theorem dX1_taken_43 : decode cX1_taken 43 = .ok (.astore_n 3, 1) := dk_78 (dk_at dksX1_taken_1 19 rfl rfl)
theorem dX1_taken_44 : decode cX1_taken 44 = .ok (.aload_n 0, 1) := dk_42 (dk_at dksX1_taken_1 20 rfl rfl)
theorem dX1_taken_45 : decode cX1_taken 45 = .ok (.getfield 43, 3) := dk_180 0 43 (dk_at dksX1_taken_1 21 rfl rfl)
theorem dX1_taken_48 : decode cX1_taken 48 = .ok (.iconst 0, 1) := dk_3 (dk_at dksX1_taken_2 0 rfl rfl)
theorem dX1_taken_49 : decode cX1_taken 49 = .ok (.invokevirtual 371, 3) := dk_182 1 115 (dk_at dksX1_taken_2 1 rfl rfl)
theorem dX1_taken_52 : decode cX1_taken 52 = .ok (.aload_n 3, 1) := dk_45 (dk_at dksX1_taken_2 4 rfl rfl)
theorem dX1_taken_53 : decode cX1_taken 53 = .ok (.athrow, 1) := dk_191 (dk_at dksX1_taken_2 5 rfl rfl)
abbrev cX1_doAll : ByteArray := prog_1_method_47_code
def yX1_doAll : MethodName := ⟨RX1, "doAll", "(Ljava/util/List;LPeacockLawns$Garden;)V"⟩
def dkwX1_doAll_2 : List UInt8 := [16, 20, 28, 25, 5, 183, 1, 124, 191, 132, 2, 1, 167, 255, 205, 177]
abbrev dktX1_doAll_2 : List UInt8 := dkwX1_doAll_2 ++ []
def dkwX1_doAll_1 : List UInt8 := [192, 0, 84, 58, 4, 25, 4, 43, 185, 0, 83, 2, 0, 54, 5, 167, 0, 18, 58, 5, 187, 0, 16, 89]
abbrev dktX1_doAll_1 : List UInt8 := dkwX1_doAll_1 ++ dktX1_doAll_2
def dkwX1_doAll_0 : List UInt8 := [3, 61, 42, 185, 0, 197, 1, 0, 78, 45, 185, 0, 201, 1, 0, 153, 0, 48, 45, 185, 0, 207, 1, 0]
abbrev dktX1_doAll_0 : List UInt8 := dkwX1_doAll_0 ++ dktX1_doAll_1
theorem dksX1_doAll_0 : cX1_doAll.data.toList.drop 0 = dktX1_doAll_0 := by decide +kernel
theorem dksX1_doAll_1 : cX1_doAll.data.toList.drop 24 = dktX1_doAll_1 := dk_seg dksX1_doAll_0 24 rfl rfl
theorem dksX1_doAll_2 : cX1_doAll.data.toList.drop 48 = dktX1_doAll_2 := dk_seg dksX1_doAll_1 24 rfl rfl
theorem dX1_doAll_0 : decode cX1_doAll 0 = .ok (.iconst 0, 1) := dk_3 (dk_at dksX1_doAll_0 0 rfl rfl)
theorem dX1_doAll_1 : decode cX1_doAll 1 = .ok (.istore_n 2, 1) := dk_61 (dk_at dksX1_doAll_0 1 rfl rfl)
theorem dX1_doAll_2 : decode cX1_doAll 2 = .ok (.aload_n 0, 1) := dk_42 (dk_at dksX1_doAll_0 2 rfl rfl)
theorem dX1_doAll_3 : decode cX1_doAll 3 = .ok (.invokeinterface 197 1, 5) := by decide +kernel
theorem dX1_doAll_8 : decode cX1_doAll 8 = .ok (.astore_n 3, 1) := dk_78 (dk_at dksX1_doAll_0 8 rfl rfl)
theorem dX1_doAll_9 : decode cX1_doAll 9 = .ok (.aload_n 3, 1) := dk_45 (dk_at dksX1_doAll_0 9 rfl rfl)
theorem dX1_doAll_10 : decode cX1_doAll 10 = .ok (.invokeinterface 201 1, 5) := by decide +kernel
theorem dX1_doAll_15 : decode cX1_doAll 15 = .ok (.ifCond .eq 48, 3) := dk_153 0 48 (dk_at dksX1_doAll_0 15 rfl rfl)
theorem dX1_doAll_18 : decode cX1_doAll 18 = .ok (.aload_n 3, 1) := dk_45 (dk_at dksX1_doAll_0 18 rfl rfl)
theorem dX1_doAll_19 : decode cX1_doAll 19 = .ok (.invokeinterface 207 1, 5) := by decide +kernel
theorem dX1_doAll_24 : decode cX1_doAll 24 = .ok (.checkcast 84, 3) := dk_192 0 84 (dk_at dksX1_doAll_1 0 rfl rfl)
theorem dX1_doAll_27 : decode cX1_doAll 27 = .ok (.astore 4, 2) := dk_58 4 (dk_at dksX1_doAll_1 3 rfl rfl)
theorem dX1_doAll_29 : decode cX1_doAll 29 = .ok (.aload 4, 2) := dk_25 4 (dk_at dksX1_doAll_1 5 rfl rfl)
theorem dX1_doAll_31 : decode cX1_doAll 31 = .ok (.aload_n 1, 1) := dk_43 (dk_at dksX1_doAll_1 7 rfl rfl)
theorem dX1_doAll_32 : decode cX1_doAll 32 = .ok (.invokeinterface 83 2, 5) := by decide +kernel
theorem dX1_doAll_37 : decode cX1_doAll 37 = .ok (.istore 5, 2) := dk_54 5 (dk_at dksX1_doAll_1 13 rfl rfl)
theorem dX1_doAll_39 : decode cX1_doAll 39 = .ok (.goto 18, 3) := dk_167 0 18 (dk_at dksX1_doAll_1 15 rfl rfl)
theorem dX1_doAll_42 : decode cX1_doAll 42 = .ok (.astore 5, 2) := dk_58 5 (dk_at dksX1_doAll_1 18 rfl rfl)
theorem dX1_doAll_44 : decode cX1_doAll 44 = .ok (.new 16, 3) := dk_187 0 16 (dk_at dksX1_doAll_1 20 rfl rfl)
theorem dX1_doAll_47 : decode cX1_doAll 47 = .ok (.dup, 1) := dk_89 (dk_at dksX1_doAll_1 23 rfl rfl)
theorem dX1_doAll_48 : decode cX1_doAll 48 = .ok (.bipush 20, 2) := dk_16 20 (dk_at dksX1_doAll_2 0 rfl rfl)
theorem dX1_doAll_50 : decode cX1_doAll 50 = .ok (.iload_n 2, 1) := dk_28 (dk_at dksX1_doAll_2 2 rfl rfl)
theorem dX1_doAll_51 : decode cX1_doAll 51 = .ok (.aload 5, 2) := dk_25 5 (dk_at dksX1_doAll_2 3 rfl rfl)
theorem dX1_doAll_53 : decode cX1_doAll 53 = .ok (.invokespecial 380, 3) := dk_183 1 124 (dk_at dksX1_doAll_2 5 rfl rfl)
theorem dX1_doAll_56 : decode cX1_doAll 56 = .ok (.athrow, 1) := dk_191 (dk_at dksX1_doAll_2 8 rfl rfl)
theorem dX1_doAll_57 : decode cX1_doAll 57 = .ok (.iinc 2 1, 3) := dk_132 2 1 (dk_at dksX1_doAll_2 9 rfl rfl)
theorem dX1_doAll_60 : decode cX1_doAll 60 = .ok (.goto (-51), 3) := dk_167 255 205 (dk_at dksX1_doAll_2 12 rfl rfl)
theorem dX1_doAll_63 : decode cX1_doAll 63 = .ok (.return_, 1) := dk_177 (dk_at dksX1_doAll_2 15 rfl rfl)
abbrev cX1_faultPosition : ByteArray := prog_1_method_49_code
def yX1_faultPosition : MethodName := ⟨RX1, "faultPosition", "()I"⟩
def dkwX1_faultPosition_0 : List UInt8 := [42, 180, 0, 53, 2, 159, 0, 7, 4, 167, 0, 4, 3, 184, 0, 164, 42, 180, 0, 53, 172]
abbrev dktX1_faultPosition_0 : List UInt8 := dkwX1_faultPosition_0 ++ []
theorem dksX1_faultPosition_0 : cX1_faultPosition.data.toList.drop 0 = dktX1_faultPosition_0 := by decide +kernel
theorem dX1_faultPosition_0 : decode cX1_faultPosition 0 = .ok (.aload_n 0, 1) := dk_42 (dk_at dksX1_faultPosition_0 0 rfl rfl)
theorem dX1_faultPosition_1 : decode cX1_faultPosition 1 = .ok (.getfield 53, 3) := dk_180 0 53 (dk_at dksX1_faultPosition_0 1 rfl rfl)
theorem dX1_faultPosition_4 : decode cX1_faultPosition 4 = .ok (.iconst (-1), 1) := dk_2 (dk_at dksX1_faultPosition_0 4 rfl rfl)
theorem dX1_faultPosition_5 : decode cX1_faultPosition 5 = .ok (.if_icmp .eq 7, 3) := dk_159 0 7 (dk_at dksX1_faultPosition_0 5 rfl rfl)
theorem dX1_faultPosition_8 : decode cX1_faultPosition 8 = .ok (.iconst 1, 1) := dk_4 (dk_at dksX1_faultPosition_0 8 rfl rfl)
theorem dX1_faultPosition_9 : decode cX1_faultPosition 9 = .ok (.goto 4, 3) := dk_167 0 4 (dk_at dksX1_faultPosition_0 9 rfl rfl)
theorem dX1_faultPosition_12 : decode cX1_faultPosition 12 = .ok (.iconst 0, 1) := dk_3 (dk_at dksX1_faultPosition_0 12 rfl rfl)
theorem dX1_faultPosition_13 : decode cX1_faultPosition 13 = .ok (.invokestatic 164, 3) := dk_184 0 164 (dk_at dksX1_faultPosition_0 13 rfl rfl)
theorem dX1_faultPosition_16 : decode cX1_faultPosition 16 = .ok (.aload_n 0, 1) := dk_42 (dk_at dksX1_faultPosition_0 16 rfl rfl)
theorem dX1_faultPosition_17 : decode cX1_faultPosition 17 = .ok (.getfield 53, 3) := dk_180 0 53 (dk_at dksX1_faultPosition_0 17 rfl rfl)
theorem dX1_faultPosition_20 : decode cX1_faultPosition 20 = .ok (.ireturn, 1) := dk_172 (dk_at dksX1_faultPosition_0 20 rfl rfl)
abbrev cX1_refusal : ByteArray := prog_1_method_50_code
def yX1_refusal : MethodName := ⟨RX1, "refusal", "(IZ)I"⟩
def dkwX1_refusal_3 : List UInt8 := [180, 1, 140, 172, 187, 0, 13, 89, 183, 0, 15, 191]
abbrev dktX1_refusal_3 : List UInt8 := dkwX1_refusal_3 ++ []
def dkwX1_refusal_2 : List UInt8 := [153, 0, 27, 45, 192, 0, 16, 58, 4, 28, 153, 0, 11, 25, 4, 180, 1, 137, 167, 0, 8, 25, 4]
abbrev dktX1_refusal_2 : List UInt8 := dkwX1_refusal_2 ++ dktX1_refusal_3
def dkwX1_refusal_1 : List UInt8 := [27, 154, 0, 10, 42, 180, 0, 72, 167, 0, 10, 42, 180, 0, 72, 182, 1, 133, 78, 45, 193, 0, 16]
abbrev dktX1_refusal_1 : List UInt8 := dkwX1_refusal_1 ++ dktX1_refusal_2
def dkwX1_refusal_0 : List UInt8 := [27, 3, 4, 184, 0, 117, 184, 0, 121, 42, 180, 0, 72, 198, 0, 7, 4, 167, 0, 4, 3, 184, 0, 164]
abbrev dktX1_refusal_0 : List UInt8 := dkwX1_refusal_0 ++ dktX1_refusal_1
theorem dksX1_refusal_0 : cX1_refusal.data.toList.drop 0 = dktX1_refusal_0 := by decide +kernel
theorem dksX1_refusal_1 : cX1_refusal.data.toList.drop 24 = dktX1_refusal_1 := dk_seg dksX1_refusal_0 24 rfl rfl
theorem dksX1_refusal_2 : cX1_refusal.data.toList.drop 47 = dktX1_refusal_2 := dk_seg dksX1_refusal_1 23 rfl rfl
theorem dksX1_refusal_3 : cX1_refusal.data.toList.drop 70 = dktX1_refusal_3 := dk_seg dksX1_refusal_2 23 rfl rfl
theorem dX1_refusal_0 : decode cX1_refusal 0 = .ok (.iload_n 1, 1) := dk_27 (dk_at dksX1_refusal_0 0 rfl rfl)
theorem dX1_refusal_1 : decode cX1_refusal 1 = .ok (.iconst 0, 1) := dk_3 (dk_at dksX1_refusal_0 1 rfl rfl)
theorem dX1_refusal_2 : decode cX1_refusal 2 = .ok (.iconst 1, 1) := dk_4 (dk_at dksX1_refusal_0 2 rfl rfl)
theorem dX1_refusal_3 : decode cX1_refusal 3 = .ok (.invokestatic 117, 3) := dk_184 0 117 (dk_at dksX1_refusal_0 3 rfl rfl)
theorem dX1_refusal_6 : decode cX1_refusal 6 = .ok (.invokestatic 121, 3) := dk_184 0 121 (dk_at dksX1_refusal_0 6 rfl rfl)
theorem dX1_refusal_9 : decode cX1_refusal 9 = .ok (.aload_n 0, 1) := dk_42 (dk_at dksX1_refusal_0 9 rfl rfl)
theorem dX1_refusal_10 : decode cX1_refusal 10 = .ok (.getfield 72, 3) := dk_180 0 72 (dk_at dksX1_refusal_0 10 rfl rfl)
theorem dX1_refusal_13 : decode cX1_refusal 13 = .ok (.ifnull 7, 3) := dk_198 0 7 (dk_at dksX1_refusal_0 13 rfl rfl)
theorem dX1_refusal_16 : decode cX1_refusal 16 = .ok (.iconst 1, 1) := dk_4 (dk_at dksX1_refusal_0 16 rfl rfl)
theorem dX1_refusal_17 : decode cX1_refusal 17 = .ok (.goto 4, 3) := dk_167 0 4 (dk_at dksX1_refusal_0 17 rfl rfl)
theorem dX1_refusal_20 : decode cX1_refusal 20 = .ok (.iconst 0, 1) := dk_3 (dk_at dksX1_refusal_0 20 rfl rfl)
theorem dX1_refusal_21 : decode cX1_refusal 21 = .ok (.invokestatic 164, 3) := dk_184 0 164 (dk_at dksX1_refusal_0 21 rfl rfl)
theorem dX1_refusal_24 : decode cX1_refusal 24 = .ok (.iload_n 1, 1) := dk_27 (dk_at dksX1_refusal_1 0 rfl rfl)
theorem dX1_refusal_25 : decode cX1_refusal 25 = .ok (.ifCond .ne 10, 3) := dk_154 0 10 (dk_at dksX1_refusal_1 1 rfl rfl)
theorem dX1_refusal_28 : decode cX1_refusal 28 = .ok (.aload_n 0, 1) := dk_42 (dk_at dksX1_refusal_1 4 rfl rfl)
theorem dX1_refusal_29 : decode cX1_refusal 29 = .ok (.getfield 72, 3) := dk_180 0 72 (dk_at dksX1_refusal_1 5 rfl rfl)
theorem dX1_refusal_32 : decode cX1_refusal 32 = .ok (.goto 10, 3) := dk_167 0 10 (dk_at dksX1_refusal_1 8 rfl rfl)
theorem dX1_refusal_35 : decode cX1_refusal 35 = .ok (.aload_n 0, 1) := dk_42 (dk_at dksX1_refusal_1 11 rfl rfl)
theorem dX1_refusal_36 : decode cX1_refusal 36 = .ok (.getfield 72, 3) := dk_180 0 72 (dk_at dksX1_refusal_1 12 rfl rfl)
theorem dX1_refusal_39 : decode cX1_refusal 39 = .ok (.invokevirtual 389, 3) := dk_182 1 133 (dk_at dksX1_refusal_1 15 rfl rfl)
theorem dX1_refusal_42 : decode cX1_refusal 42 = .ok (.astore_n 3, 1) := dk_78 (dk_at dksX1_refusal_1 18 rfl rfl)
theorem dX1_refusal_43 : decode cX1_refusal 43 = .ok (.aload_n 3, 1) := dk_45 (dk_at dksX1_refusal_1 19 rfl rfl)
theorem dX1_refusal_44 : decode cX1_refusal 44 = .ok (.instanceof 16, 3) := dk_193 0 16 (dk_at dksX1_refusal_1 20 rfl rfl)
theorem dX1_refusal_47 : decode cX1_refusal 47 = .ok (.ifCond .eq 27, 3) := dk_153 0 27 (dk_at dksX1_refusal_2 0 rfl rfl)
theorem dX1_refusal_50 : decode cX1_refusal 50 = .ok (.aload_n 3, 1) := dk_45 (dk_at dksX1_refusal_2 3 rfl rfl)
theorem dX1_refusal_51 : decode cX1_refusal 51 = .ok (.checkcast 16, 3) := dk_192 0 16 (dk_at dksX1_refusal_2 4 rfl rfl)
theorem dX1_refusal_54 : decode cX1_refusal 54 = .ok (.astore 4, 2) := dk_58 4 (dk_at dksX1_refusal_2 7 rfl rfl)
theorem dX1_refusal_56 : decode cX1_refusal 56 = .ok (.iload_n 2, 1) := dk_28 (dk_at dksX1_refusal_2 9 rfl rfl)
theorem dX1_refusal_57 : decode cX1_refusal 57 = .ok (.ifCond .eq 11, 3) := dk_153 0 11 (dk_at dksX1_refusal_2 10 rfl rfl)
theorem dX1_refusal_60 : decode cX1_refusal 60 = .ok (.aload 4, 2) := dk_25 4 (dk_at dksX1_refusal_2 13 rfl rfl)
theorem dX1_refusal_62 : decode cX1_refusal 62 = .ok (.getfield 393, 3) := dk_180 1 137 (dk_at dksX1_refusal_2 15 rfl rfl)
theorem dX1_refusal_65 : decode cX1_refusal 65 = .ok (.goto 8, 3) := dk_167 0 8 (dk_at dksX1_refusal_2 18 rfl rfl)
theorem dX1_refusal_68 : decode cX1_refusal 68 = .ok (.aload 4, 2) := dk_25 4 (dk_at dksX1_refusal_2 21 rfl rfl)
theorem dX1_refusal_70 : decode cX1_refusal 70 = .ok (.getfield 396, 3) := dk_180 1 140 (dk_at dksX1_refusal_3 0 rfl rfl)
theorem dX1_refusal_73 : decode cX1_refusal 73 = .ok (.ireturn, 1) := dk_172 (dk_at dksX1_refusal_3 3 rfl rfl)
theorem dX1_refusal_74 : decode cX1_refusal 74 = .ok (.new 13, 3) := dk_187 0 13 (dk_at dksX1_refusal_3 4 rfl rfl)
theorem dX1_refusal_77 : decode cX1_refusal 77 = .ok (.dup, 1) := dk_89 (dk_at dksX1_refusal_3 7 rfl rfl)
theorem dX1_refusal_78 : decode cX1_refusal 78 = .ok (.invokespecial 15, 3) := dk_183 0 15 (dk_at dksX1_refusal_3 8 rfl rfl)
theorem dX1_refusal_81 : decode cX1_refusal 81 = .ok (.athrow, 1) := dk_191 (dk_at dksX1_refusal_3 11 rfl rfl)
abbrev cX1_undo : ByteArray := prog_1_method_51_code
def yX1_undo : MethodName := ⟨RX1, "undo", "()I"⟩
def dkwX1_undo_1 : List UInt8 := [182, 1, 146, 192, 0, 24, 181, 0, 27, 42, 180, 0, 36, 182, 0, 60, 172]
abbrev dktX1_undo_1 : List UInt8 := dkwX1_undo_1 ++ []
def dkwX1_undo_0 : List UInt8 := [42, 180, 0, 36, 182, 1, 143, 154, 0, 7, 4, 167, 0, 4, 3, 184, 1, 103, 42, 42, 180, 0, 36]
abbrev dktX1_undo_0 : List UInt8 := dkwX1_undo_0 ++ dktX1_undo_1
theorem dksX1_undo_0 : cX1_undo.data.toList.drop 0 = dktX1_undo_0 := by decide +kernel
theorem dksX1_undo_1 : cX1_undo.data.toList.drop 23 = dktX1_undo_1 := dk_seg dksX1_undo_0 23 rfl rfl
theorem dX1_undo_0 : decode cX1_undo 0 = .ok (.aload_n 0, 1) := dk_42 (dk_at dksX1_undo_0 0 rfl rfl)
theorem dX1_undo_1 : decode cX1_undo 1 = .ok (.getfield 36, 3) := dk_180 0 36 (dk_at dksX1_undo_0 1 rfl rfl)
theorem dX1_undo_4 : decode cX1_undo 4 = .ok (.invokevirtual 399, 3) := dk_182 1 143 (dk_at dksX1_undo_0 4 rfl rfl)
theorem dX1_undo_7 : decode cX1_undo 7 = .ok (.ifCond .ne 7, 3) := dk_154 0 7 (dk_at dksX1_undo_0 7 rfl rfl)
theorem dX1_undo_10 : decode cX1_undo 10 = .ok (.iconst 1, 1) := dk_4 (dk_at dksX1_undo_0 10 rfl rfl)
theorem dX1_undo_11 : decode cX1_undo 11 = .ok (.goto 4, 3) := dk_167 0 4 (dk_at dksX1_undo_0 11 rfl rfl)
theorem dX1_undo_14 : decode cX1_undo 14 = .ok (.iconst 0, 1) := dk_3 (dk_at dksX1_undo_0 14 rfl rfl)
theorem dX1_undo_15 : decode cX1_undo 15 = .ok (.invokestatic 359, 3) := dk_184 1 103 (dk_at dksX1_undo_0 15 rfl rfl)
theorem dX1_undo_18 : decode cX1_undo 18 = .ok (.aload_n 0, 1) := dk_42 (dk_at dksX1_undo_0 18 rfl rfl)
theorem dX1_undo_19 : decode cX1_undo 19 = .ok (.aload_n 0, 1) := dk_42 (dk_at dksX1_undo_0 19 rfl rfl)
theorem dX1_undo_20 : decode cX1_undo 20 = .ok (.getfield 36, 3) := dk_180 0 36 (dk_at dksX1_undo_0 20 rfl rfl)
theorem dX1_undo_23 : decode cX1_undo 23 = .ok (.invokevirtual 402, 3) := dk_182 1 146 (dk_at dksX1_undo_1 0 rfl rfl)
theorem dX1_undo_26 : decode cX1_undo 26 = .ok (.checkcast 24, 3) := dk_192 0 24 (dk_at dksX1_undo_1 3 rfl rfl)
theorem dX1_undo_29 : decode cX1_undo 29 = .ok (.putfield 27, 3) := dk_181 0 27 (dk_at dksX1_undo_1 6 rfl rfl)
theorem dX1_undo_32 : decode cX1_undo 32 = .ok (.aload_n 0, 1) := dk_42 (dk_at dksX1_undo_1 9 rfl rfl)
theorem dX1_undo_33 : decode cX1_undo 33 = .ok (.getfield 36, 3) := dk_180 0 36 (dk_at dksX1_undo_1 10 rfl rfl)
theorem dX1_undo_36 : decode cX1_undo 36 = .ok (.invokevirtual 60, 3) := dk_182 0 60 (dk_at dksX1_undo_1 13 rfl rfl)
theorem dX1_undo_39 : decode cX1_undo 39 = .ok (.ireturn, 1) := dk_172 (dk_at dksX1_undo_1 16 rfl rfl)
abbrev cX1_restoreSnapshot : ByteArray := prog_1_method_53_code
def yX1_restoreSnapshot : MethodName := ⟨RX1, "restoreSnapshot", "()I"⟩
def dkwX1_restoreSnapshot_2 : List UInt8 := [185, 0, 161, 1, 0, 172]
abbrev dktX1_restoreSnapshot_2 : List UInt8 := dkwX1_restoreSnapshot_2 ++ []
def dkwX1_restoreSnapshot_1 : List UInt8 := [183, 0, 57, 181, 0, 27, 42, 180, 0, 36, 182, 1, 152, 42, 180, 0, 27, 180, 0, 107]
abbrev dktX1_restoreSnapshot_1 : List UInt8 := dkwX1_restoreSnapshot_1 ++ dktX1_restoreSnapshot_2
def dkwX1_restoreSnapshot_0 : List UInt8 := [42, 180, 1, 149, 198, 0, 7, 4, 167, 0, 4, 3, 184, 1, 103, 42, 187, 0, 24, 89, 42, 180, 1, 149]
abbrev dktX1_restoreSnapshot_0 : List UInt8 := dkwX1_restoreSnapshot_0 ++ dktX1_restoreSnapshot_1
theorem dksX1_restoreSnapshot_0 : cX1_restoreSnapshot.data.toList.drop 0 = dktX1_restoreSnapshot_0 := by decide +kernel
theorem dksX1_restoreSnapshot_1 : cX1_restoreSnapshot.data.toList.drop 24 = dktX1_restoreSnapshot_1 := dk_seg dksX1_restoreSnapshot_0 24 rfl rfl
theorem dksX1_restoreSnapshot_2 : cX1_restoreSnapshot.data.toList.drop 44 = dktX1_restoreSnapshot_2 := dk_seg dksX1_restoreSnapshot_1 20 rfl rfl
theorem dX1_restoreSnapshot_0 : decode cX1_restoreSnapshot 0 = .ok (.aload_n 0, 1) := dk_42 (dk_at dksX1_restoreSnapshot_0 0 rfl rfl)
theorem dX1_restoreSnapshot_1 : decode cX1_restoreSnapshot 1 = .ok (.getfield 405, 3) := dk_180 1 149 (dk_at dksX1_restoreSnapshot_0 1 rfl rfl)
theorem dX1_restoreSnapshot_4 : decode cX1_restoreSnapshot 4 = .ok (.ifnull 7, 3) := dk_198 0 7 (dk_at dksX1_restoreSnapshot_0 4 rfl rfl)
theorem dX1_restoreSnapshot_7 : decode cX1_restoreSnapshot 7 = .ok (.iconst 1, 1) := dk_4 (dk_at dksX1_restoreSnapshot_0 7 rfl rfl)
theorem dX1_restoreSnapshot_8 : decode cX1_restoreSnapshot 8 = .ok (.goto 4, 3) := dk_167 0 4 (dk_at dksX1_restoreSnapshot_0 8 rfl rfl)
theorem dX1_restoreSnapshot_11 : decode cX1_restoreSnapshot 11 = .ok (.iconst 0, 1) := dk_3 (dk_at dksX1_restoreSnapshot_0 11 rfl rfl)
theorem dX1_restoreSnapshot_12 : decode cX1_restoreSnapshot 12 = .ok (.invokestatic 359, 3) := dk_184 1 103 (dk_at dksX1_restoreSnapshot_0 12 rfl rfl)
theorem dX1_restoreSnapshot_15 : decode cX1_restoreSnapshot 15 = .ok (.aload_n 0, 1) := dk_42 (dk_at dksX1_restoreSnapshot_0 15 rfl rfl)
theorem dX1_restoreSnapshot_16 : decode cX1_restoreSnapshot 16 = .ok (.new 24, 3) := dk_187 0 24 (dk_at dksX1_restoreSnapshot_0 16 rfl rfl)
theorem dX1_restoreSnapshot_19 : decode cX1_restoreSnapshot 19 = .ok (.dup, 1) := dk_89 (dk_at dksX1_restoreSnapshot_0 19 rfl rfl)
theorem dX1_restoreSnapshot_20 : decode cX1_restoreSnapshot 20 = .ok (.aload_n 0, 1) := dk_42 (dk_at dksX1_restoreSnapshot_0 20 rfl rfl)
theorem dX1_restoreSnapshot_21 : decode cX1_restoreSnapshot 21 = .ok (.getfield 405, 3) := dk_180 1 149 (dk_at dksX1_restoreSnapshot_0 21 rfl rfl)
theorem dX1_restoreSnapshot_24 : decode cX1_restoreSnapshot 24 = .ok (.invokespecial 57, 3) := dk_183 0 57 (dk_at dksX1_restoreSnapshot_1 0 rfl rfl)
theorem dX1_restoreSnapshot_27 : decode cX1_restoreSnapshot 27 = .ok (.putfield 27, 3) := dk_181 0 27 (dk_at dksX1_restoreSnapshot_1 3 rfl rfl)
theorem dX1_restoreSnapshot_30 : decode cX1_restoreSnapshot 30 = .ok (.aload_n 0, 1) := dk_42 (dk_at dksX1_restoreSnapshot_1 6 rfl rfl)
theorem dX1_restoreSnapshot_31 : decode cX1_restoreSnapshot 31 = .ok (.getfield 36, 3) := dk_180 0 36 (dk_at dksX1_restoreSnapshot_1 7 rfl rfl)
theorem dX1_restoreSnapshot_34 : decode cX1_restoreSnapshot 34 = .ok (.invokevirtual 408, 3) := dk_182 1 152 (dk_at dksX1_restoreSnapshot_1 10 rfl rfl)
theorem dX1_restoreSnapshot_37 : decode cX1_restoreSnapshot 37 = .ok (.aload_n 0, 1) := dk_42 (dk_at dksX1_restoreSnapshot_1 13 rfl rfl)
theorem dX1_restoreSnapshot_38 : decode cX1_restoreSnapshot 38 = .ok (.getfield 27, 3) := dk_180 0 27 (dk_at dksX1_restoreSnapshot_1 14 rfl rfl)
theorem dX1_restoreSnapshot_41 : decode cX1_restoreSnapshot 41 = .ok (.getfield 107, 3) := dk_180 0 107 (dk_at dksX1_restoreSnapshot_1 17 rfl rfl)
theorem dX1_restoreSnapshot_44 : decode cX1_restoreSnapshot 44 = .ok (.invokeinterface 161 1, 5) := by decide +kernel
theorem dX1_restoreSnapshot_49 : decode cX1_restoreSnapshot 49 = .ok (.ireturn, 1) := dk_172 (dk_at dksX1_restoreSnapshot_2 5 rfl rfl)
theorem q80 : (Jvm.Cond.initialized "PeacockLawns") ∈ lw_all := lw_g (lw_at lw_m1 1 rfl) rfl
theorem q121 : (Jvm.Cond.instantiable "PeacockLawns" (7 : Nat)) ∈ lw_all := lw_g (lw_at lw_m1 42 rfl) rfl
theorem q123 : (Jvm.Cond.instanceMethod ({ cls := "PeacockLawns", name := "<init>", desc := "()V" } : Jvm.MethodName)) ∈ lw_all := lw_g (lw_at lw_m1 44 rfl) rfl
theorem q124 : (Jvm.Cond.code ({ cls := "PeacockLawns", name := "<init>", desc := "()V" } : Jvm.MethodName) prog_1_method_8_code (1 : Nat) (Option.none : Option Jvm.ClassFile.FieldType)) ∈ lw_all := lw_g (lw_at lw_m1 45 rfl) rfl
theorem q125 : (Jvm.Cond.methodLink "PeacockLawns" (21 : Nat) ({ cls := "java/lang/Object", name := "<init>", desc := "()V" } : Jvm.MethodName)) ∈ lw_all := lw_g (lw_at lw_m1 46 rfl) rfl
theorem q128 : (Jvm.Cond.classLink "PeacockLawns" (24 : Nat) "PeacockLawns$Garden") ∈ lw_all := lw_g (lw_at lw_m1 49 rfl) rfl
theorem q130 : (Jvm.Cond.methodLink "PeacockLawns" (26 : Nat) ({ cls := "PeacockLawns$Garden", name := "<init>", desc := "()V" } : Jvm.MethodName)) ∈ lw_all := lw_g (lw_at lw_m1 51 rfl) rfl
theorem q167 : (Jvm.Cond.fieldLinkNest "PeacockLawns" (107 : Nat) "PeacockLawns$Garden" "birds" "Ljava/util/List;" "PeacockLawns") ∈ lw_tbl := lw_at lw_m1 88 rfl
theorem q169 : (Jvm.Cond.fieldLinkNest "PeacockLawns" (213 : Nat) "PeacockLawns$Garden" "keepers" "Ljava/util/List;" "PeacockLawns") ∈ lw_tbl := lw_at lw_m1 90 rfl
theorem q171 : (Jvm.Cond.fieldLinkNest "PeacockLawns" (194 : Nat) "PeacockLawns$Garden" "benches" "Ljava/util/List;" "PeacockLawns") ∈ lw_tbl := lw_at lw_m1 92 rfl
theorem q173 : (Jvm.Cond.fieldLinkNest "PeacockLawns" (219 : Nat) "PeacockLawns$Garden" "hedges" "[I" "PeacockLawns") ∈ lw_tbl := lw_at lw_m1 94 rfl
theorem q175 : (Jvm.Cond.fieldLinkNest "PeacockLawns" (182 : Nat) "PeacockLawns$Garden" "lying" "[I" "PeacockLawns") ∈ lw_tbl := lw_at lw_m1 96 rfl
theorem q177 : (Jvm.Cond.fieldLinkNest "PeacockLawns" (308 : Nat) "PeacockLawns$Garden" "day" "I" "PeacockLawns") ∈ lw_tbl := lw_at lw_m1 98 rfl
theorem q179 : (Jvm.Cond.fieldLinkNest "PeacockLawns" (176 : Nat) "PeacockLawns$Garden" "fox" "I" "PeacockLawns") ∈ lw_tbl := lw_at lw_m1 100 rfl
theorem q181 : (Jvm.Cond.fieldLinkNest "PeacockLawns" (347 : Nat) "PeacockLawns$Garden" "coins" "I" "PeacockLawns") ∈ lw_tbl := lw_at lw_m1 102 rfl
theorem q183 : (Jvm.Cond.fieldLinkNest "PeacockLawns" (331 : Nat) "PeacockLawns$Garden" "shed" "I" "PeacockLawns") ∈ lw_tbl := lw_at lw_m1 104 rfl
theorem q185 : (Jvm.Cond.fieldLinkNest "PeacockLawns" (336 : Nat) "PeacockLawns$Garden" "store" "I" "PeacockLawns") ∈ lw_tbl := lw_at lw_m1 106 rfl
theorem q187 : (Jvm.Cond.fieldLinkNest "PeacockLawns" (339 : Nat) "PeacockLawns$Garden" "taken" "I" "PeacockLawns") ∈ lw_tbl := lw_at lw_m1 108 rfl
theorem q189 : (Jvm.Cond.fieldLinkNest "PeacockLawns" (342 : Nat) "PeacockLawns$Garden" "sold" "I" "PeacockLawns") ∈ lw_tbl := lw_at lw_m1 110 rfl
theorem q191 : (Jvm.Cond.fieldLinkNest "PeacockLawns" (325 : Nat) "PeacockLawns$Garden" "hatched" "I" "PeacockLawns") ∈ lw_tbl := lw_at lw_m1 112 rfl
theorem q193 : (Jvm.Cond.fieldLinkNest "PeacockLawns" (328 : Nat) "PeacockLawns$Garden" "eaten" "I" "PeacockLawns") ∈ lw_tbl := lw_at lw_m1 114 rfl
theorem q195 : (Jvm.Cond.fieldLinkNest "PeacockLawns" (350 : Nat) "PeacockLawns$Garden" "fines" "I" "PeacockLawns") ∈ lw_tbl := lw_at lw_m1 116 rfl
theorem q228 : (Jvm.Cond.classLink "PeacockLawns" (33 : Nat) "java/util/ArrayDeque") ∈ lw_all := lw_g (lw_at lw_m1 149 rfl) rfl
theorem q230 : (Jvm.Cond.methodLink "PeacockLawns" (35 : Nat) ({ cls := "java/util/ArrayDeque", name := "<init>", desc := "()V" } : Jvm.MethodName)) ∈ lw_all := lw_g (lw_at lw_m1 151 rfl) rfl
theorem q246 : (Jvm.Cond.classLink "PeacockLawns" (40 : Nat) "java/lang/StringBuilder") ∈ lw_all := lw_g (lw_at lw_m1 167 rfl) rfl
theorem q248 : (Jvm.Cond.methodLink "PeacockLawns" (42 : Nat) ({ cls := "java/lang/StringBuilder", name := "<init>", desc := "()V" } : Jvm.MethodName)) ∈ lw_all := lw_g (lw_at lw_m1 169 rfl) rfl
theorem q279 : (Jvm.Cond.stringRef "PeacockLawns" (47 : Nat) "") ∈ lw_tbl := lw_at lw_m1 200 rfl
theorem q280 : (Jvm.Cond.fieldLink "PeacockLawns" (27 : Nat) "PeacockLawns" "garden" "LPeacockLawns$Garden;") ∈ lw_all := lw_g (lw_at lw_m1 201 rfl) rfl
theorem q281 : (Jvm.Cond.fieldLink "PeacockLawns" (36 : Nat) "PeacockLawns" "past" "Ljava/util/ArrayDeque;") ∈ lw_all := lw_g (lw_at lw_m1 202 rfl) rfl
theorem q283 : (Jvm.Cond.fieldLink "PeacockLawns" (43 : Nat) "PeacockLawns" "input" "Ljava/lang/StringBuilder;") ∈ lw_all := lw_g (lw_at lw_m1 204 rfl) rfl
theorem q284 : (Jvm.Cond.fieldLink "PeacockLawns" (49 : Nat) "PeacockLawns" "line" "Ljava/lang/CharSequence;") ∈ lw_all := lw_g (lw_at lw_m1 205 rfl) rfl
theorem q285 : (Jvm.Cond.fieldLink "PeacockLawns" (53 : Nat) "PeacockLawns" "fault" "I") ∈ lw_all := lw_g (lw_at lw_m1 206 rfl) rfl
theorem q286 : (Jvm.Cond.fieldLink "PeacockLawns" (72 : Nat) "PeacockLawns" "latest" "LPeacockLawns$Refusal;") ∈ lw_all := lw_g (lw_at lw_m1 207 rfl) rfl
theorem q287 : (Jvm.Cond.fieldLink "PeacockLawns" (405 : Nat) "PeacockLawns" "saved" "LPeacockLawns$Garden;") ∈ lw_all := lw_g (lw_at lw_m1 208 rfl) rfl
theorem q288 : (Jvm.Cond.lays "PeacockLawns" "PeacockLawns" "garden" "LPeacockLawns$Garden;") ∈ lw_all := lw_g (lw_at lw_m1 209 rfl) rfl
theorem q289 : (Jvm.Cond.soleField "PeacockLawns" "garden") ∈ lw_all := lw_g (lw_at lw_m1 210 rfl) rfl
theorem q290 : (Jvm.Cond.laysFinal "PeacockLawns" "PeacockLawns" "past" "Ljava/util/ArrayDeque;") ∈ lw_all := lw_g (lw_at lw_m1 211 rfl) rfl
theorem q291 : (Jvm.Cond.soleField "PeacockLawns" "past") ∈ lw_all := lw_g (lw_at lw_m1 212 rfl) rfl
theorem q292 : (Jvm.Cond.laysFinal "PeacockLawns" "PeacockLawns" "input" "Ljava/lang/StringBuilder;") ∈ lw_all := lw_g (lw_at lw_m1 213 rfl) rfl
theorem q293 : (Jvm.Cond.soleField "PeacockLawns" "input") ∈ lw_all := lw_g (lw_at lw_m1 214 rfl) rfl
theorem q294 : (Jvm.Cond.lays "PeacockLawns" "PeacockLawns" "line" "Ljava/lang/CharSequence;") ∈ lw_all := lw_g (lw_at lw_m1 215 rfl) rfl
theorem q295 : (Jvm.Cond.soleField "PeacockLawns" "line") ∈ lw_all := lw_g (lw_at lw_m1 216 rfl) rfl
theorem q296 : (Jvm.Cond.lays "PeacockLawns" "PeacockLawns" "fault" "I") ∈ lw_all := lw_g (lw_at lw_m1 217 rfl) rfl
theorem q297 : (Jvm.Cond.soleField "PeacockLawns" "fault") ∈ lw_all := lw_g (lw_at lw_m1 218 rfl) rfl
theorem q298 : (Jvm.Cond.lays "PeacockLawns" "PeacockLawns" "latest" "LPeacockLawns$Refusal;") ∈ lw_all := lw_g (lw_at lw_m1 219 rfl) rfl
theorem q299 : (Jvm.Cond.soleField "PeacockLawns" "latest") ∈ lw_all := lw_g (lw_at lw_m1 220 rfl) rfl
theorem q300 : (Jvm.Cond.lays "PeacockLawns" "PeacockLawns" "saved" "LPeacockLawns$Garden;") ∈ lw_all := lw_g (lw_at lw_m1 221 rfl) rfl
theorem q301 : (Jvm.Cond.soleField "PeacockLawns" "saved") ∈ lw_all := lw_g (lw_at lw_m1 222 rfl) rfl
theorem q302 : (Jvm.Cond.superclass "PeacockLawns" "java/lang/Object") ∈ lw_all := lw_g (lw_at lw_m1 223 rfl) rfl
theorem q304 : (Jvm.Cond.instanceMethod ({ cls := "PeacockLawns", name := "fox", desc := "()I" } : Jvm.MethodName)) ∈ lw_all := lw_g (lw_at lw_m1 225 rfl) rfl
theorem q305 : (Jvm.Cond.selects "PeacockLawns" ({ cls := "PeacockLawns", name := "fox", desc := "()I" } : Jvm.MethodName) ({ cls := "PeacockLawns", name := "fox", desc := "()I" } : Jvm.MethodName)) ∈ lw_all := lw_g (lw_at lw_m1 226 rfl) rfl
theorem q306 : (Jvm.Cond.code ({ cls := "PeacockLawns", name := "fox", desc := "()I" } : Jvm.MethodName) prog_1_method_19_code (1 : Nat) (Option.some Jvm.ClassFile.FieldType.int)) ∈ lw_all := lw_g (lw_at lw_m1 227 rfl) rfl
theorem q308 : (Jvm.Cond.instanceMethod ({ cls := "PeacockLawns", name := "noise", desc := "()I" } : Jvm.MethodName)) ∈ lw_all := lw_g (lw_at lw_m1 229 rfl) rfl
theorem q309 : (Jvm.Cond.selects "PeacockLawns" ({ cls := "PeacockLawns", name := "noise", desc := "()I" } : Jvm.MethodName) ({ cls := "PeacockLawns", name := "noise", desc := "()I" } : Jvm.MethodName)) ∈ lw_all := lw_g (lw_at lw_m1 230 rfl) rfl
theorem q310 : (Jvm.Cond.code ({ cls := "PeacockLawns", name := "noise", desc := "()I" } : Jvm.MethodName) prog_1_method_37_code (1 : Nat) (Option.some Jvm.ClassFile.FieldType.int)) ∈ lw_all := lw_g (lw_at lw_m1 231 rfl) rfl
theorem q311 : (Jvm.Cond.methodLink "PeacockLawns" (272 : Nat) ({ cls := "PeacockLawns$Garden", name := "noise", desc := "()I" } : Jvm.MethodName)) ∈ lw_all := lw_g (lw_at lw_m1 232 rfl) rfl
theorem q454 : (Jvm.Cond.instanceMethod ({ cls := "PeacockLawns", name := "shedAgain", desc := "()I" } : Jvm.MethodName)) ∈ lw_all := lw_g (lw_at lw_m2 135 rfl) rfl
theorem q455 : (Jvm.Cond.selects "PeacockLawns" ({ cls := "PeacockLawns", name := "shedAgain", desc := "()I" } : Jvm.MethodName) ({ cls := "PeacockLawns", name := "shedAgain", desc := "()I" } : Jvm.MethodName)) ∈ lw_all := lw_g (lw_at lw_m2 136 rfl) rfl
theorem q456 : (Jvm.Cond.code ({ cls := "PeacockLawns", name := "shedAgain", desc := "()I" } : Jvm.MethodName) prog_1_method_42_code (1 : Nat) (Option.some Jvm.ClassFile.FieldType.int)) ∈ lw_all := lw_g (lw_at lw_m2 137 rfl) rfl
theorem q457 : (Jvm.Cond.methodLink "PeacockLawns" (332 : Nat) ({ cls := "PeacockLawns", name := "sum", desc := "([I)I" } : Jvm.MethodName)) ∈ lw_all := lw_g (lw_at lw_m2 138 rfl) rfl
theorem q458 : (Jvm.Cond.static ({ cls := "PeacockLawns", name := "sum", desc := "([I)I" } : Jvm.MethodName)) ∈ lw_all := lw_g (lw_at lw_m2 139 rfl) rfl
theorem q459 : (Jvm.Cond.code ({ cls := "PeacockLawns", name := "sum", desc := "([I)I" } : Jvm.MethodName) prog_1_method_7_code (6 : Nat) (Option.some Jvm.ClassFile.FieldType.int)) ∈ lw_all := lw_g (lw_at lw_m2 140 rfl) rfl
theorem q461 : (Jvm.Cond.instanceMethod ({ cls := "PeacockLawns", name := "meanHeight", desc := "()D" } : Jvm.MethodName)) ∈ lw_all := lw_g (lw_at lw_m2 142 rfl) rfl
theorem q462 : (Jvm.Cond.selects "PeacockLawns" ({ cls := "PeacockLawns", name := "meanHeight", desc := "()D" } : Jvm.MethodName) ({ cls := "PeacockLawns", name := "meanHeight", desc := "()D" } : Jvm.MethodName)) ∈ lw_all := lw_g (lw_at lw_m2 143 rfl) rfl
theorem q463 : (Jvm.Cond.code ({ cls := "PeacockLawns", name := "meanHeight", desc := "()D" } : Jvm.MethodName) prog_1_method_43_code (1 : Nat) (Option.some Jvm.ClassFile.FieldType.double)) ∈ lw_all := lw_g (lw_at lw_m2 144 rfl) rfl
theorem q464 : (Jvm.Cond.constantDouble "PeacockLawns" (354 : Nat) (4622945017495814144 : UInt64)) ∈ lw_all := lw_g (lw_at lw_m2 145 rfl) rfl
theorem q466 : (Jvm.Cond.instanceMethod ({ cls := "PeacockLawns", name := "saveSnapshot", desc := "()I" } : Jvm.MethodName)) ∈ lw_all := lw_g (lw_at lw_m2 147 rfl) rfl
theorem q467 : (Jvm.Cond.selects "PeacockLawns" ({ cls := "PeacockLawns", name := "saveSnapshot", desc := "()I" } : Jvm.MethodName) ({ cls := "PeacockLawns", name := "saveSnapshot", desc := "()I" } : Jvm.MethodName)) ∈ lw_all := lw_g (lw_at lw_m2 148 rfl) rfl
theorem q468 : (Jvm.Cond.code ({ cls := "PeacockLawns", name := "saveSnapshot", desc := "()I" } : Jvm.MethodName) prog_1_method_52_code (1 : Nat) (Option.some Jvm.ClassFile.FieldType.int)) ∈ lw_all := lw_g (lw_at lw_m2 149 rfl) rfl
theorem q469 : (Jvm.Cond.methodLink "PeacockLawns" (79 : Nat) ({ cls := "PeacockLawns", name := "draft", desc := "()LPeacockLawns$Garden;" } : Jvm.MethodName)) ∈ lw_all := lw_g (lw_at lw_m2 150 rfl) rfl
theorem q470 : (Jvm.Cond.privateMethod ({ cls := "PeacockLawns", name := "draft", desc := "()LPeacockLawns$Garden;" } : Jvm.MethodName)) ∈ lw_tbl := lw_at lw_m2 151 rfl
theorem q471 : (Jvm.Cond.instanceMethod ({ cls := "PeacockLawns", name := "draft", desc := "()LPeacockLawns$Garden;" } : Jvm.MethodName)) ∈ lw_all := lw_g (lw_at lw_m2 152 rfl) rfl
theorem q472 : (Jvm.Cond.code ({ cls := "PeacockLawns", name := "draft", desc := "()LPeacockLawns$Garden;" } : Jvm.MethodName) prog_1_method_9_code (1 : Nat) (Option.some (Jvm.ClassFile.FieldType.object "PeacockLawns$Garden"))) ∈ lw_all := lw_g (lw_at lw_m2 153 rfl) rfl
theorem q473 : (Jvm.Cond.methodLink "PeacockLawns" (57 : Nat) ({ cls := "PeacockLawns$Garden", name := "<init>", desc := "(LPeacockLawns$Garden;)V" } : Jvm.MethodName)) ∈ lw_all := lw_g (lw_at lw_m2 154 rfl) rfl
theorem q752 : (Jvm.Cond.selects "PeacockLawns" ({ cls := "java/lang/Object", name := "getClass", desc := "()Ljava/lang/Class;" } : Jvm.MethodName) ({ cls := "java/lang/Object", name := "getClass", desc := "()Ljava/lang/Class;" } : Jvm.MethodName)) ∈ lw_all := lw_g (lw_at lw_m3 193 rfl) rfl
theorem q790 : (Jvm.Cond.interfaceEntry "PeacockLawns" (161 : Nat)) ∈ lw_tbl := lw_at lw_m3 231 rfl
theorem q791 : (Jvm.Cond.methodLink "PeacockLawns" (161 : Nat) ({ cls := "java/util/List", name := "size", desc := "()I" } : Jvm.MethodName)) ∈ lw_all := lw_g (lw_at lw_m3 232 rfl) rfl
theorem q824 : (Jvm.Cond.instanceMethod ({ cls := "PeacockLawns", name := "cock", desc := "(III)I" } : Jvm.MethodName)) ∈ lw_all := lw_g (lw_at lw_m4 25 rfl) rfl
theorem q825 : (Jvm.Cond.selects "PeacockLawns" ({ cls := "PeacockLawns", name := "cock", desc := "(III)I" } : Jvm.MethodName) ({ cls := "PeacockLawns", name := "cock", desc := "(III)I" } : Jvm.MethodName)) ∈ lw_all := lw_g (lw_at lw_m4 26 rfl) rfl
theorem q826 : (Jvm.Cond.code ({ cls := "PeacockLawns", name := "cock", desc := "(III)I" } : Jvm.MethodName) prog_1_method_13_code (4 : Nat) (Option.some Jvm.ClassFile.FieldType.int)) ∈ lw_all := lw_g (lw_at lw_m4 27 rfl) rfl
theorem q827 : (Jvm.Cond.static ({ cls := "PeacockLawns", name := "lambda$cock$0", desc := "(IIILPeacockLawns$Garden;)I" } : Jvm.MethodName)) ∈ lw_all := lw_g (lw_at lw_m4 28 rfl) rfl
theorem q828 : (Jvm.Cond.code ({ cls := "PeacockLawns", name := "lambda$cock$0", desc := "(IIILPeacockLawns$Garden;)I" } : Jvm.MethodName) prog_1_method_67_code (4 : Nat) (Option.some Jvm.ClassFile.FieldType.int)) ∈ lw_all := lw_g (lw_at lw_m4 29 rfl) rfl
theorem q829 : (Jvm.Cond.methodLink "PeacockLawns" (445 : Nat) ({ cls := "PeacockLawns$Garden", name := "addCock", desc := "(III)I" } : Jvm.MethodName)) ∈ lw_all := lw_g (lw_at lw_m4 30 rfl) rfl
theorem q837 : (Jvm.Cond.static ({ cls := "PeacockLawns", name := "inRange", desc := "(III)Z" } : Jvm.MethodName)) ∈ lw_all := lw_g (lw_at lw_m4 38 rfl) rfl
theorem q838 : (Jvm.Cond.code ({ cls := "PeacockLawns", name := "inRange", desc := "(III)Z" } : Jvm.MethodName) prog_1_method_1_code (3 : Nat) (Option.some Jvm.ClassFile.FieldType.boolean)) ∈ lw_all := lw_g (lw_at lw_m4 39 rfl) rfl
theorem q840 : (Jvm.Cond.static ({ cls := "PeacockLawns", name := "requireIndex", desc := "(Z)V" } : Jvm.MethodName)) ∈ lw_all := lw_g (lw_at lw_m4 41 rfl) rfl
theorem q841 : (Jvm.Cond.code ({ cls := "PeacockLawns", name := "requireIndex", desc := "(Z)V" } : Jvm.MethodName) prog_1_method_3_code (1 : Nat) (Option.none : Option Jvm.ClassFile.FieldType)) ∈ lw_all := lw_g (lw_at lw_m4 42 rfl) rfl
theorem q842 : (Jvm.Cond.classLink "PeacockLawns" (7 : Nat) "java/lang/IndexOutOfBoundsException") ∈ lw_all := lw_g (lw_at lw_m4 43 rfl) rfl
theorem q851 : (Jvm.Cond.methodLink "PeacockLawns" (9 : Nat) ({ cls := "java/lang/IndexOutOfBoundsException", name := "<init>", desc := "()V" } : Jvm.MethodName)) ∈ lw_all := lw_g (lw_at lw_m4 52 rfl) rfl
theorem q858 : (Jvm.Cond.static ({ cls := "PeacockLawns", name := "require", desc := "(Z)V" } : Jvm.MethodName)) ∈ lw_all := lw_g (lw_at lw_m4 59 rfl) rfl
theorem q859 : (Jvm.Cond.code ({ cls := "PeacockLawns", name := "require", desc := "(Z)V" } : Jvm.MethodName) prog_1_method_2_code (1 : Nat) (Option.none : Option Jvm.ClassFile.FieldType)) ∈ lw_all := lw_g (lw_at lw_m4 60 rfl) rfl
theorem q860 : (Jvm.Cond.classLink "PeacockLawns" (1 : Nat) "java/lang/IllegalArgumentException") ∈ lw_all := lw_g (lw_at lw_m4 61 rfl) rfl
theorem q861 : (Jvm.Cond.methodLink "PeacockLawns" (3 : Nat) ({ cls := "java/lang/IllegalArgumentException", name := "<init>", desc := "()V" } : Jvm.MethodName)) ∈ lw_all := lw_g (lw_at lw_m4 62 rfl) rfl
theorem q874 : (Jvm.Cond.fieldLinkNest "PeacockLawns" (125 : Nat) "PeacockLawns$Bird" "isHen" "Z" "PeacockLawns") ∈ lw_tbl := lw_at lw_m4 75 rfl
theorem q877 : (Jvm.Cond.fieldLinkNest "PeacockLawns" (129 : Nat) "PeacockLawns$Bird" "lawn" "I" "PeacockLawns") ∈ lw_tbl := lw_at lw_m4 78 rfl
theorem q880 : (Jvm.Cond.fieldLinkNest "PeacockLawns" (132 : Nat) "PeacockLawns$Bird" "much" "I" "PeacockLawns") ∈ lw_tbl := lw_at lw_m4 81 rfl
theorem q883 : (Jvm.Cond.fieldLinkNest "PeacockLawns" (135 : Nat) "PeacockLawns$Bird" "voice" "I" "PeacockLawns") ∈ lw_tbl := lw_at lw_m4 84 rfl
theorem q887 : (Jvm.Cond.fieldLinkNest "PeacockLawns" (138 : Nat) "PeacockLawns$Bird" "parent" "I" "PeacockLawns") ∈ lw_tbl := lw_at lw_m4 88 rfl
theorem q889 : (Jvm.Cond.fieldLinkNest "PeacockLawns" (141 : Nat) "PeacockLawns$Bird" "shed" "I" "PeacockLawns") ∈ lw_tbl := lw_at lw_m4 90 rfl
theorem q910 : (Jvm.Cond.static ({ cls := "PeacockLawns", name := "allow", desc := "(ZII)V" } : Jvm.MethodName)) ∈ lw_all := lw_g (lw_at lw_m4 111 rfl) rfl
theorem q911 : (Jvm.Cond.code ({ cls := "PeacockLawns", name := "allow", desc := "(ZII)V" } : Jvm.MethodName) prog_1_method_6_code (3 : Nat) (Option.none : Option Jvm.ClassFile.FieldType)) ∈ lw_all := lw_g (lw_at lw_m4 112 rfl) rfl
theorem q912 : (Jvm.Cond.classLink "PeacockLawns" (16 : Nat) "PeacockLawns$Refusal") ∈ lw_all := lw_g (lw_at lw_m4 113 rfl) rfl
theorem q921 : (Jvm.Cond.methodLink "PeacockLawns" (18 : Nat) ({ cls := "PeacockLawns$Refusal", name := "<init>", desc := "(II)V" } : Jvm.MethodName)) ∈ lw_all := lw_g (lw_at lw_m4 122 rfl) rfl
theorem q934 : (Jvm.Cond.fieldLinkNest "PeacockLawns" (393 : Nat) "PeacockLawns$Refusal" "reason" "I" "PeacockLawns") ∈ lw_tbl := lw_at lw_m4 135 rfl
theorem q936 : (Jvm.Cond.fieldLinkNest "PeacockLawns" (396 : Nat) "PeacockLawns$Refusal" "detail" "I" "PeacockLawns") ∈ lw_tbl := lw_at lw_m4 137 rfl
theorem q963 : (Jvm.Cond.methodLink "PeacockLawns" (99 : Nat) ({ cls := "PeacockLawns", name := "change", desc := "(LPeacockLawns$Deed;)I" } : Jvm.MethodName)) ∈ lw_all := lw_g (lw_at lw_m4 164 rfl) rfl
theorem q964 : (Jvm.Cond.privateMethod ({ cls := "PeacockLawns", name := "change", desc := "(LPeacockLawns$Deed;)I" } : Jvm.MethodName)) ∈ lw_tbl := lw_at lw_m4 165 rfl
theorem q965 : (Jvm.Cond.instanceMethod ({ cls := "PeacockLawns", name := "change", desc := "(LPeacockLawns$Deed;)I" } : Jvm.MethodName)) ∈ lw_all := lw_g (lw_at lw_m4 166 rfl) rfl
theorem q966 : (Jvm.Cond.codeWith ({ cls := "PeacockLawns", name := "change", desc := "(LPeacockLawns$Deed;)I" } : Jvm.MethodName) prog_1_method_12_code (4 : Nat) (Option.some Jvm.ClassFile.FieldType.int) [((5 : Nat), (19 : Nat), (20 : Nat), (16 : Nat))]) ∈ lw_all := lw_g (lw_at lw_m4 167 rfl) rfl
theorem q967 : (Jvm.Cond.interfaceEntry "PeacockLawns" (83 : Nat)) ∈ lw_tbl := lw_at lw_m4 168 rfl
theorem q968 : (Jvm.Cond.methodLink "PeacockLawns" (83 : Nat) ({ cls := "PeacockLawns$Deed", name := "done", desc := "(LPeacockLawns$Garden;)I" } : Jvm.MethodName)) ∈ lw_all := lw_g (lw_at lw_m4 169 rfl) rfl
theorem q971 : (Jvm.Cond.methodLink "PeacockLawns" (89 : Nat) ({ cls := "PeacockLawns", name := "replace", desc := "(LPeacockLawns$Garden;)V" } : Jvm.MethodName)) ∈ lw_all := lw_g (lw_at lw_m4 172 rfl) rfl
theorem q972 : (Jvm.Cond.privateMethod ({ cls := "PeacockLawns", name := "replace", desc := "(LPeacockLawns$Garden;)V" } : Jvm.MethodName)) ∈ lw_tbl := lw_at lw_m4 173 rfl
theorem q973 : (Jvm.Cond.instanceMethod ({ cls := "PeacockLawns", name := "replace", desc := "(LPeacockLawns$Garden;)V" } : Jvm.MethodName)) ∈ lw_all := lw_g (lw_at lw_m4 174 rfl) rfl
theorem q974 : (Jvm.Cond.code ({ cls := "PeacockLawns", name := "replace", desc := "(LPeacockLawns$Garden;)V" } : Jvm.MethodName) prog_1_method_10_code (3 : Nat) (Option.none : Option Jvm.ClassFile.FieldType)) ∈ lw_all := lw_g (lw_at lw_m4 175 rfl) rfl
theorem q975 : (Jvm.Cond.methodLink "PeacockLawns" (60 : Nat) ({ cls := "java/util/ArrayDeque", name := "size", desc := "()I" } : Jvm.MethodName)) ∈ lw_all := lw_g (lw_at lw_m4 176 rfl) rfl
theorem q982 : (Jvm.Cond.methodLink "PeacockLawns" (64 : Nat) ({ cls := "java/util/ArrayDeque", name := "removeLast", desc := "()Ljava/lang/Object;" } : Jvm.MethodName)) ∈ lw_all := lw_g (lw_at lw_m4 183 rfl) rfl
theorem q998 : (Jvm.Cond.methodLink "PeacockLawns" (68 : Nat) ({ cls := "java/util/ArrayDeque", name := "push", desc := "(Ljava/lang/Object;)V" } : Jvm.MethodName)) ∈ lw_all := lw_g (lw_at lw_m4 199 rfl) rfl
theorem q1033 : (Jvm.Cond.methodLink "PeacockLawns" (92 : Nat) ({ cls := "PeacockLawns", name := "refuse", desc := "(LPeacockLawns$Refusal;)Ljava/lang/UnsupportedOperationException;" } : Jvm.MethodName)) ∈ lw_all := lw_g (lw_at lw_m4 234 rfl) rfl
theorem q1034 : (Jvm.Cond.privateMethod ({ cls := "PeacockLawns", name := "refuse", desc := "(LPeacockLawns$Refusal;)Ljava/lang/UnsupportedOperationException;" } : Jvm.MethodName)) ∈ lw_tbl := lw_at lw_m4 235 rfl
theorem q1035 : (Jvm.Cond.instanceMethod ({ cls := "PeacockLawns", name := "refuse", desc := "(LPeacockLawns$Refusal;)Ljava/lang/UnsupportedOperationException;" } : Jvm.MethodName)) ∈ lw_all := lw_g (lw_at lw_m4 236 rfl) rfl
theorem q1036 : (Jvm.Cond.code ({ cls := "PeacockLawns", name := "refuse", desc := "(LPeacockLawns$Refusal;)Ljava/lang/UnsupportedOperationException;" } : Jvm.MethodName) prog_1_method_11_code (2 : Nat) (Option.some (Jvm.ClassFile.FieldType.object "java/lang/UnsupportedOperationException"))) ∈ lw_all := lw_g (lw_at lw_m4 237 rfl) rfl
theorem q1037 : (Jvm.Cond.classLink "PeacockLawns" (76 : Nat) "java/lang/UnsupportedOperationException") ∈ lw_all := lw_g (lw_at lw_m4 238 rfl) rfl
theorem q1046 : (Jvm.Cond.methodLink "PeacockLawns" (78 : Nat) ({ cls := "java/lang/UnsupportedOperationException", name := "<init>", desc := "()V" } : Jvm.MethodName)) ∈ lw_all := lw_g (lw_at lw_m5 7 rfl) rfl
theorem q1056 : (Jvm.Cond.instanceMethod ({ cls := "PeacockLawns", name := "hen", desc := "(I)I" } : Jvm.MethodName)) ∈ lw_all := lw_g (lw_at lw_m5 17 rfl) rfl
theorem q1057 : (Jvm.Cond.selects "PeacockLawns" ({ cls := "PeacockLawns", name := "hen", desc := "(I)I" } : Jvm.MethodName) ({ cls := "PeacockLawns", name := "hen", desc := "(I)I" } : Jvm.MethodName)) ∈ lw_all := lw_g (lw_at lw_m5 18 rfl) rfl
theorem q1058 : (Jvm.Cond.code ({ cls := "PeacockLawns", name := "hen", desc := "(I)I" } : Jvm.MethodName) prog_1_method_14_code (2 : Nat) (Option.some Jvm.ClassFile.FieldType.int)) ∈ lw_all := lw_g (lw_at lw_m5 19 rfl) rfl
theorem q1059 : (Jvm.Cond.static ({ cls := "PeacockLawns", name := "lambda$hen$1", desc := "(ILPeacockLawns$Garden;)I" } : Jvm.MethodName)) ∈ lw_all := lw_g (lw_at lw_m5 20 rfl) rfl
theorem q1060 : (Jvm.Cond.code ({ cls := "PeacockLawns", name := "lambda$hen$1", desc := "(ILPeacockLawns$Garden;)I" } : Jvm.MethodName) prog_1_method_66_code (2 : Nat) (Option.some Jvm.ClassFile.FieldType.int)) ∈ lw_all := lw_g (lw_at lw_m5 21 rfl) rfl
theorem q1061 : (Jvm.Cond.methodLink "PeacockLawns" (442 : Nat) ({ cls := "PeacockLawns$Garden", name := "addHen", desc := "(I)I" } : Jvm.MethodName)) ∈ lw_all := lw_g (lw_at lw_m5 22 rfl) rfl
theorem q1069 : (Jvm.Cond.instanceMethod ({ cls := "PeacockLawns", name := "lay", desc := "(I)I" } : Jvm.MethodName)) ∈ lw_all := lw_g (lw_at lw_m5 30 rfl) rfl
theorem q1070 : (Jvm.Cond.selects "PeacockLawns" ({ cls := "PeacockLawns", name := "lay", desc := "(I)I" } : Jvm.MethodName) ({ cls := "PeacockLawns", name := "lay", desc := "(I)I" } : Jvm.MethodName)) ∈ lw_all := lw_g (lw_at lw_m5 31 rfl) rfl
theorem q1071 : (Jvm.Cond.code ({ cls := "PeacockLawns", name := "lay", desc := "(I)I" } : Jvm.MethodName) prog_1_method_15_code (2 : Nat) (Option.some Jvm.ClassFile.FieldType.int)) ∈ lw_all := lw_g (lw_at lw_m5 32 rfl) rfl
theorem q1072 : (Jvm.Cond.static ({ cls := "PeacockLawns", name := "lambda$lay$2", desc := "(ILPeacockLawns$Garden;)I" } : Jvm.MethodName)) ∈ lw_all := lw_g (lw_at lw_m5 33 rfl) rfl
theorem q1073 : (Jvm.Cond.code ({ cls := "PeacockLawns", name := "lambda$lay$2", desc := "(ILPeacockLawns$Garden;)I" } : Jvm.MethodName) prog_1_method_65_code (2 : Nat) (Option.some Jvm.ClassFile.FieldType.int)) ∈ lw_all := lw_g (lw_at lw_m5 34 rfl) rfl
theorem q1074 : (Jvm.Cond.methodLink "PeacockLawns" (439 : Nat) ({ cls := "PeacockLawns$Garden", name := "lay", desc := "(I)I" } : Jvm.MethodName)) ∈ lw_all := lw_g (lw_at lw_m5 35 rfl) rfl
theorem q1122 : (Jvm.Cond.instanceMethod ({ cls := "PeacockLawns", name := "birdOf", desc := "(II)I" } : Jvm.MethodName)) ∈ lw_all := lw_g (lw_at lw_m5 83 rfl) rfl
theorem q1123 : (Jvm.Cond.selects "PeacockLawns" ({ cls := "PeacockLawns", name := "birdOf", desc := "(II)I" } : Jvm.MethodName) ({ cls := "PeacockLawns", name := "birdOf", desc := "(II)I" } : Jvm.MethodName)) ∈ lw_all := lw_g (lw_at lw_m5 84 rfl) rfl
theorem q1124 : (Jvm.Cond.code ({ cls := "PeacockLawns", name := "birdOf", desc := "(II)I" } : Jvm.MethodName) prog_1_method_16_code (4 : Nat) (Option.some Jvm.ClassFile.FieldType.int)) ∈ lw_all := lw_g (lw_at lw_m5 85 rfl) rfl
theorem q1125 : (Jvm.Cond.methodLinkNest "PeacockLawns" (111 : Nat) ({ cls := "PeacockLawns$Garden", name := "at", desc := "(Ljava/util/List;I)Ljava/lang/Object;" } : Jvm.MethodName) "PeacockLawns") ∈ lw_tbl := lw_at lw_m5 86 rfl
theorem q1126 : (Jvm.Cond.classLink "PeacockLawns" (115 : Nat) "PeacockLawns$Bird") ∈ lw_all := lw_g (lw_at lw_m5 87 rfl) rfl
theorem q1127 : (Jvm.Cond.methodLink "PeacockLawns" (117 : Nat) ({ cls := "PeacockLawns", name := "inRange", desc := "(III)Z" } : Jvm.MethodName)) ∈ lw_all := lw_g (lw_at lw_m5 88 rfl) rfl
theorem q1128 : (Jvm.Cond.methodLink "PeacockLawns" (121 : Nat) ({ cls := "PeacockLawns", name := "require", desc := "(Z)V" } : Jvm.MethodName)) ∈ lw_all := lw_g (lw_at lw_m5 89 rfl) rfl
theorem q1129 : (Jvm.Cond.classLink "PeacockLawns" (144 : Nat) "PeacockLawns$Node") ∈ lw_all := lw_g (lw_at lw_m5 90 rfl) rfl
theorem q1131 : (Jvm.Cond.methodLink "PeacockLawns" (146 : Nat) ({ cls := "PeacockLawns$Node", name := "<init>", desc := "(ILjava/util/List;)V" } : Jvm.MethodName)) ∈ lw_all := lw_g (lw_at lw_m5 92 rfl) rfl
theorem q1153 : (Jvm.Cond.methodLink "PeacockLawns" (149 : Nat) ({ cls := "PeacockLawns$Node", name := "size", desc := "()I" } : Jvm.MethodName)) ∈ lw_all := lw_g (lw_at lw_m5 114 rfl) rfl
theorem q1168 : (Jvm.Cond.instanceMethod ({ cls := "PeacockLawns", name := "goesTo", desc := "(I)I" } : Jvm.MethodName)) ∈ lw_all := lw_g (lw_at lw_m5 129 rfl) rfl
theorem q1169 : (Jvm.Cond.selects "PeacockLawns" ({ cls := "PeacockLawns", name := "goesTo", desc := "(I)I" } : Jvm.MethodName) ({ cls := "PeacockLawns", name := "goesTo", desc := "(I)I" } : Jvm.MethodName)) ∈ lw_all := lw_g (lw_at lw_m5 130 rfl) rfl
theorem q1170 : (Jvm.Cond.code ({ cls := "PeacockLawns", name := "goesTo", desc := "(I)I" } : Jvm.MethodName) prog_1_method_17_code (2 : Nat) (Option.some Jvm.ClassFile.FieldType.int)) ∈ lw_all := lw_g (lw_at lw_m5 131 rfl) rfl
theorem q1171 : (Jvm.Cond.methodLink "PeacockLawns" (150 : Nat) ({ cls := "PeacockLawns$Garden", name := "goesTo", desc := "(LPeacockLawns$Bird;)I" } : Jvm.MethodName)) ∈ lw_all := lw_g (lw_at lw_m5 132 rfl) rfl
theorem q1193 : (Jvm.Cond.instanceMethod ({ cls := "PeacockLawns", name := "ordered", desc := "(I)I" } : Jvm.MethodName)) ∈ lw_all := lw_g (lw_at lw_m5 154 rfl) rfl
theorem q1194 : (Jvm.Cond.selects "PeacockLawns" ({ cls := "PeacockLawns", name := "ordered", desc := "(I)I" } : Jvm.MethodName) ({ cls := "PeacockLawns", name := "ordered", desc := "(I)I" } : Jvm.MethodName)) ∈ lw_all := lw_g (lw_at lw_m5 155 rfl) rfl
theorem q1195 : (Jvm.Cond.code ({ cls := "PeacockLawns", name := "ordered", desc := "(I)I" } : Jvm.MethodName) prog_1_method_18_code (3 : Nat) (Option.some Jvm.ClassFile.FieldType.int)) ∈ lw_all := lw_g (lw_at lw_m5 156 rfl) rfl
theorem q1196 : (Jvm.Cond.classLink "PeacockLawns" (154 : Nat) "java/util/ArrayList") ∈ lw_all := lw_g (lw_at lw_m5 157 rfl) rfl
theorem q1197 : (Jvm.Cond.methodLink "PeacockLawns" (156 : Nat) ({ cls := "java/util/ArrayList", name := "<init>", desc := "()V" } : Jvm.MethodName)) ∈ lw_all := lw_g (lw_at lw_m5 158 rfl) rfl
theorem q1198 : (Jvm.Cond.methodLink "PeacockLawns" (157 : Nat) ({ cls := "PeacockLawns$Node", name := "list", desc := "(Ljava/util/List;)V" } : Jvm.MethodName)) ∈ lw_all := lw_g (lw_at lw_m5 159 rfl) rfl
theorem q1223 : (Jvm.Cond.methodLink "PeacockLawns" (164 : Nat) ({ cls := "PeacockLawns", name := "requireElement", desc := "(Z)V" } : Jvm.MethodName)) ∈ lw_all := lw_g (lw_at lw_m5 184 rfl) rfl
theorem q1224 : (Jvm.Cond.static ({ cls := "PeacockLawns", name := "requireElement", desc := "(Z)V" } : Jvm.MethodName)) ∈ lw_all := lw_g (lw_at lw_m5 185 rfl) rfl
theorem q1225 : (Jvm.Cond.code ({ cls := "PeacockLawns", name := "requireElement", desc := "(Z)V" } : Jvm.MethodName) prog_1_method_5_code (1 : Nat) (Option.none : Option Jvm.ClassFile.FieldType)) ∈ lw_all := lw_g (lw_at lw_m5 186 rfl) rfl
theorem q1226 : (Jvm.Cond.classLink "PeacockLawns" (13 : Nat) "java/util/NoSuchElementException") ∈ lw_all := lw_g (lw_at lw_m5 187 rfl) rfl
theorem q1227 : (Jvm.Cond.methodLink "PeacockLawns" (15 : Nat) ({ cls := "java/util/NoSuchElementException", name := "<init>", desc := "()V" } : Jvm.MethodName)) ∈ lw_all := lw_g (lw_at lw_m5 188 rfl) rfl
theorem q1228 : (Jvm.Cond.interfaceEntry "PeacockLawns" (167 : Nat)) ∈ lw_tbl := lw_at lw_m5 189 rfl
theorem q1229 : (Jvm.Cond.methodLink "PeacockLawns" (167 : Nat) ({ cls := "java/util/List", name := "get", desc := "(I)Ljava/lang/Object;" } : Jvm.MethodName)) ∈ lw_all := lw_g (lw_at lw_m5 190 rfl) rfl
theorem q1230 : (Jvm.Cond.classLink "PeacockLawns" (171 : Nat) "java/lang/Integer") ∈ lw_all := lw_g (lw_at lw_m5 191 rfl) rfl
theorem q1231 : (Jvm.Cond.methodLink "PeacockLawns" (173 : Nat) ({ cls := "java/lang/Integer", name := "intValue", desc := "()I" } : Jvm.MethodName)) ∈ lw_all := lw_g (lw_at lw_m5 192 rfl) rfl
theorem q1239 : (Jvm.Cond.instanceMethod ({ cls := "PeacockLawns", name := "lawnOf", desc := "(II)I" } : Jvm.MethodName)) ∈ lw_all := lw_g (lw_at lw_m5 200 rfl) rfl
theorem q1240 : (Jvm.Cond.selects "PeacockLawns" ({ cls := "PeacockLawns", name := "lawnOf", desc := "(II)I" } : Jvm.MethodName) ({ cls := "PeacockLawns", name := "lawnOf", desc := "(II)I" } : Jvm.MethodName)) ∈ lw_all := lw_g (lw_at lw_m5 201 rfl) rfl
theorem q1241 : (Jvm.Cond.code ({ cls := "PeacockLawns", name := "lawnOf", desc := "(II)I" } : Jvm.MethodName) prog_1_method_20_code (7 : Nat) (Option.some Jvm.ClassFile.FieldType.int)) ∈ lw_all := lw_g (lw_at lw_m5 202 rfl) rfl
theorem q1242 : (Jvm.Cond.methodLinkNest "PeacockLawns" (179 : Nat) ({ cls := "PeacockLawns$Garden", name := "lawn", desc := "(I)I" } : Jvm.MethodName) "PeacockLawns") ∈ lw_tbl := lw_at lw_m5 203 rfl
theorem q1243 : (Jvm.Cond.static ({ cls := "PeacockLawns", name := "lambda$lawnOf$3", desc := "(ILPeacockLawns$Bird;)Z" } : Jvm.MethodName)) ∈ lw_all := lw_g (lw_at lw_m5 204 rfl) rfl
theorem q1244 : (Jvm.Cond.code ({ cls := "PeacockLawns", name := "lambda$lawnOf$3", desc := "(ILPeacockLawns$Bird;)Z" } : Jvm.MethodName) prog_1_method_64_code (2 : Nat) (Option.some Jvm.ClassFile.FieldType.boolean)) ∈ lw_all := lw_g (lw_at lw_m5 205 rfl) rfl
theorem q1245 : (Jvm.Cond.methodLink "PeacockLawns" (190 : Nat) ({ cls := "PeacockLawns$Garden", name := "count", desc := "(LPeacockLawns$Kind;)I" } : Jvm.MethodName)) ∈ lw_all := lw_g (lw_at lw_m5 206 rfl) rfl
theorem q1253 : (Jvm.Cond.interfaceEntry "PeacockLawns" (197 : Nat)) ∈ lw_tbl := lw_at lw_m5 214 rfl
theorem q1254 : (Jvm.Cond.methodLink "PeacockLawns" (197 : Nat) ({ cls := "java/util/List", name := "iterator", desc := "()Ljava/util/Iterator;" } : Jvm.MethodName)) ∈ lw_all := lw_g (lw_at lw_m5 215 rfl) rfl
theorem q1255 : (Jvm.Cond.interfaceEntry "PeacockLawns" (201 : Nat)) ∈ lw_tbl := lw_at lw_m5 216 rfl
theorem q1256 : (Jvm.Cond.methodLink "PeacockLawns" (201 : Nat) ({ cls := "java/util/Iterator", name := "hasNext", desc := "()Z" } : Jvm.MethodName)) ∈ lw_all := lw_g (lw_at lw_m5 217 rfl) rfl
theorem q1257 : (Jvm.Cond.interfaceEntry "PeacockLawns" (207 : Nat)) ∈ lw_tbl := lw_at lw_m5 218 rfl
theorem q1258 : (Jvm.Cond.methodLink "PeacockLawns" (207 : Nat) ({ cls := "java/util/Iterator", name := "next", desc := "()Ljava/lang/Object;" } : Jvm.MethodName)) ∈ lw_all := lw_g (lw_at lw_m5 219 rfl) rfl
theorem q1259 : (Jvm.Cond.classLink "PeacockLawns" (210 : Nat) "PeacockLawns$Bench") ∈ lw_all := lw_g (lw_at lw_m5 220 rfl) rfl
theorem q1260 : (Jvm.Cond.classLink "PeacockLawns" (216 : Nat) "PeacockLawns$Keeper") ∈ lw_all := lw_g (lw_at lw_m5 221 rfl) rfl
theorem q1261 : (Jvm.Cond.methodLink "PeacockLawns" (222 : Nat) ({ cls := "PeacockLawns$Garden", name := "way", desc := "(II)I" } : Jvm.MethodName)) ∈ lw_all := lw_g (lw_at lw_m5 222 rfl) rfl
theorem q1262 : (Jvm.Cond.methodLink "PeacockLawns" (226 : Nat) ({ cls := "PeacockLawns$Garden", name := "between", desc := "(II)I" } : Jvm.MethodName)) ∈ lw_all := lw_g (lw_at lw_m5 223 rfl) rfl
theorem q1267 : (Jvm.Cond.instanceMethod ({ cls := "PeacockLawns", name := "height", desc := "(I)I" } : Jvm.MethodName)) ∈ lw_all := lw_g (lw_at lw_m5 228 rfl) rfl
theorem q1268 : (Jvm.Cond.selects "PeacockLawns" ({ cls := "PeacockLawns", name := "height", desc := "(I)I" } : Jvm.MethodName) ({ cls := "PeacockLawns", name := "height", desc := "(I)I" } : Jvm.MethodName)) ∈ lw_all := lw_g (lw_at lw_m5 229 rfl) rfl
theorem q1269 : (Jvm.Cond.code ({ cls := "PeacockLawns", name := "height", desc := "(I)I" } : Jvm.MethodName) prog_1_method_21_code (2 : Nat) (Option.some Jvm.ClassFile.FieldType.int)) ∈ lw_all := lw_g (lw_at lw_m5 230 rfl) rfl
theorem q1270 : (Jvm.Cond.methodLink "PeacockLawns" (229 : Nat) ({ cls := "PeacockLawns", name := "requireIndex", desc := "(Z)V" } : Jvm.MethodName)) ∈ lw_all := lw_g (lw_at lw_m5 231 rfl) rfl
theorem q1275 : (Jvm.Cond.instanceMethod ({ cls := "PeacockLawns", name := "reached", desc := "(II)I" } : Jvm.MethodName)) ∈ lw_all := lw_g (lw_at lw_m5 236 rfl) rfl
theorem q1276 : (Jvm.Cond.selects "PeacockLawns" ({ cls := "PeacockLawns", name := "reached", desc := "(II)I" } : Jvm.MethodName) ({ cls := "PeacockLawns", name := "reached", desc := "(II)I" } : Jvm.MethodName)) ∈ lw_all := lw_g (lw_at lw_m5 237 rfl) rfl
theorem q1277 : (Jvm.Cond.code ({ cls := "PeacockLawns", name := "reached", desc := "(II)I" } : Jvm.MethodName) prog_1_method_22_code (4 : Nat) (Option.some Jvm.ClassFile.FieldType.int)) ∈ lw_all := lw_g (lw_at lw_m5 238 rfl) rfl
theorem q1278 : (Jvm.Cond.methodLink "PeacockLawns" (232 : Nat) ({ cls := "PeacockLawns$Garden", name := "reached", desc := "(III)I" } : Jvm.MethodName)) ∈ lw_all := lw_g (lw_at lw_m5 239 rfl) rfl
theorem q1287 : (Jvm.Cond.instanceMethod ({ cls := "PeacockLawns", name := "reachedAgain", desc := "(II)I" } : Jvm.MethodName)) ∈ lw_all := lw_g (lw_at lw_m6 8 rfl) rfl
theorem q1288 : (Jvm.Cond.selects "PeacockLawns" ({ cls := "PeacockLawns", name := "reachedAgain", desc := "(II)I" } : Jvm.MethodName) ({ cls := "PeacockLawns", name := "reachedAgain", desc := "(II)I" } : Jvm.MethodName)) ∈ lw_all := lw_g (lw_at lw_m6 9 rfl) rfl
theorem q1289 : (Jvm.Cond.code ({ cls := "PeacockLawns", name := "reachedAgain", desc := "(II)I" } : Jvm.MethodName) prog_1_method_23_code (4 : Nat) (Option.some Jvm.ClassFile.FieldType.int)) ∈ lw_all := lw_g (lw_at lw_m6 10 rfl) rfl
theorem q1290 : (Jvm.Cond.methodLink "PeacockLawns" (236 : Nat) ({ cls := "PeacockLawns$Garden", name := "reachedAgain", desc := "(II)I" } : Jvm.MethodName)) ∈ lw_all := lw_g (lw_at lw_m6 11 rfl) rfl
theorem q1298 : (Jvm.Cond.instanceMethod ({ cls := "PeacockLawns", name := "richest", desc := "()I" } : Jvm.MethodName)) ∈ lw_all := lw_g (lw_at lw_m6 19 rfl) rfl
theorem q1299 : (Jvm.Cond.selects "PeacockLawns" ({ cls := "PeacockLawns", name := "richest", desc := "()I" } : Jvm.MethodName) ({ cls := "PeacockLawns", name := "richest", desc := "()I" } : Jvm.MethodName)) ∈ lw_all := lw_g (lw_at lw_m6 20 rfl) rfl
theorem q1300 : (Jvm.Cond.code ({ cls := "PeacockLawns", name := "richest", desc := "()I" } : Jvm.MethodName) prog_1_method_24_code (3 : Nat) (Option.some Jvm.ClassFile.FieldType.int)) ∈ lw_all := lw_g (lw_at lw_m6 21 rfl) rfl
theorem q1305 : (Jvm.Cond.instanceMethod ({ cls := "PeacockLawns", name := "keeper", desc := "()I" } : Jvm.MethodName)) ∈ lw_all := lw_g (lw_at lw_m6 26 rfl) rfl
theorem q1306 : (Jvm.Cond.selects "PeacockLawns" ({ cls := "PeacockLawns", name := "keeper", desc := "()I" } : Jvm.MethodName) ({ cls := "PeacockLawns", name := "keeper", desc := "()I" } : Jvm.MethodName)) ∈ lw_all := lw_g (lw_at lw_m6 27 rfl) rfl
theorem q1307 : (Jvm.Cond.code ({ cls := "PeacockLawns", name := "keeper", desc := "()I" } : Jvm.MethodName) prog_1_method_25_code (1 : Nat) (Option.some Jvm.ClassFile.FieldType.int)) ∈ lw_all := lw_g (lw_at lw_m6 28 rfl) rfl
theorem q1308 : (Jvm.Cond.static ({ cls := "PeacockLawns", name := "lambda$keeper$4", desc := "(LPeacockLawns$Garden;)I" } : Jvm.MethodName)) ∈ lw_all := lw_g (lw_at lw_m6 29 rfl) rfl
theorem q1309 : (Jvm.Cond.code ({ cls := "PeacockLawns", name := "lambda$keeper$4", desc := "(LPeacockLawns$Garden;)I" } : Jvm.MethodName) prog_1_method_63_code (1 : Nat) (Option.some Jvm.ClassFile.FieldType.int)) ∈ lw_all := lw_g (lw_at lw_m6 30 rfl) rfl
theorem q1311 : (Jvm.Cond.methodLink "PeacockLawns" (438 : Nat) ({ cls := "PeacockLawns$Keeper", name := "<init>", desc := "()V" } : Jvm.MethodName)) ∈ lw_all := lw_g (lw_at lw_m6 32 rfl) rfl
theorem q1320 : (Jvm.Cond.fieldLinkNest "PeacockLawns" (218 : Nat) "PeacockLawns$Keeper" "lawn" "I" "PeacockLawns") ∈ lw_tbl := lw_at lw_m6 41 rfl
theorem q1323 : (Jvm.Cond.fieldLinkNest "PeacockLawns" (242 : Nat) "PeacockLawns$Keeper" "hours" "I" "PeacockLawns") ∈ lw_tbl := lw_at lw_m6 44 rfl
theorem q1325 : (Jvm.Cond.fieldLinkNest "PeacockLawns" (245 : Nat) "PeacockLawns$Keeper" "found" "I" "PeacockLawns") ∈ lw_tbl := lw_at lw_m6 46 rfl
theorem q1327 : (Jvm.Cond.fieldLinkNest "PeacockLawns" (248 : Nat) "PeacockLawns$Keeper" "cut" "I" "PeacockLawns") ∈ lw_tbl := lw_at lw_m6 48 rfl
theorem q1337 : (Jvm.Cond.methodLinkNest "PeacockLawns" (422 : Nat) ({ cls := "PeacockLawns$Garden", name := "add", desc := "(Ljava/util/List;Ljava/lang/Object;I)I" } : Jvm.MethodName) "PeacockLawns") ∈ lw_tbl := lw_at lw_m6 58 rfl
theorem q1342 : (Jvm.Cond.instanceMethod ({ cls := "PeacockLawns", name := "keeperOf", desc := "(II)I" } : Jvm.MethodName)) ∈ lw_all := lw_g (lw_at lw_m6 63 rfl) rfl
theorem q1343 : (Jvm.Cond.selects "PeacockLawns" ({ cls := "PeacockLawns", name := "keeperOf", desc := "(II)I" } : Jvm.MethodName) ({ cls := "PeacockLawns", name := "keeperOf", desc := "(II)I" } : Jvm.MethodName)) ∈ lw_all := lw_g (lw_at lw_m6 64 rfl) rfl
theorem q1344 : (Jvm.Cond.code ({ cls := "PeacockLawns", name := "keeperOf", desc := "(II)I" } : Jvm.MethodName) prog_1_method_26_code (4 : Nat) (Option.some Jvm.ClassFile.FieldType.int)) ∈ lw_all := lw_g (lw_at lw_m6 65 rfl) rfl
theorem q1349 : (Jvm.Cond.instanceMethod ({ cls := "PeacockLawns", name := "walk", desc := "(II)I" } : Jvm.MethodName)) ∈ lw_all := lw_g (lw_at lw_m6 70 rfl) rfl
theorem q1350 : (Jvm.Cond.selects "PeacockLawns" ({ cls := "PeacockLawns", name := "walk", desc := "(II)I" } : Jvm.MethodName) ({ cls := "PeacockLawns", name := "walk", desc := "(II)I" } : Jvm.MethodName)) ∈ lw_all := lw_g (lw_at lw_m6 71 rfl) rfl
theorem q1351 : (Jvm.Cond.code ({ cls := "PeacockLawns", name := "walk", desc := "(II)I" } : Jvm.MethodName) prog_1_method_27_code (3 : Nat) (Option.some Jvm.ClassFile.FieldType.int)) ∈ lw_all := lw_g (lw_at lw_m6 72 rfl) rfl
theorem q1352 : (Jvm.Cond.static ({ cls := "PeacockLawns", name := "lambda$walk$5", desc := "(IILPeacockLawns$Garden;)I" } : Jvm.MethodName)) ∈ lw_all := lw_g (lw_at lw_m6 73 rfl) rfl
theorem q1353 : (Jvm.Cond.code ({ cls := "PeacockLawns", name := "lambda$walk$5", desc := "(IILPeacockLawns$Garden;)I" } : Jvm.MethodName) prog_1_method_62_code (3 : Nat) (Option.some Jvm.ClassFile.FieldType.int)) ∈ lw_all := lw_g (lw_at lw_m6 74 rfl) rfl
theorem q1354 : (Jvm.Cond.methodLink "PeacockLawns" (435 : Nat) ({ cls := "PeacockLawns$Garden", name := "walk", desc := "(II)I" } : Jvm.MethodName)) ∈ lw_all := lw_g (lw_at lw_m6 75 rfl) rfl
theorem q1371 : (Jvm.Cond.instanceMethod ({ cls := "PeacockLawns", name := "shear", desc := "(III)I" } : Jvm.MethodName)) ∈ lw_all := lw_g (lw_at lw_m6 92 rfl) rfl
theorem q1372 : (Jvm.Cond.selects "PeacockLawns" ({ cls := "PeacockLawns", name := "shear", desc := "(III)I" } : Jvm.MethodName) ({ cls := "PeacockLawns", name := "shear", desc := "(III)I" } : Jvm.MethodName)) ∈ lw_all := lw_g (lw_at lw_m6 93 rfl) rfl
theorem q1373 : (Jvm.Cond.code ({ cls := "PeacockLawns", name := "shear", desc := "(III)I" } : Jvm.MethodName) prog_1_method_28_code (4 : Nat) (Option.some Jvm.ClassFile.FieldType.int)) ∈ lw_all := lw_g (lw_at lw_m6 94 rfl) rfl
theorem q1374 : (Jvm.Cond.static ({ cls := "PeacockLawns", name := "lambda$shear$6", desc := "(IIILPeacockLawns$Garden;)I" } : Jvm.MethodName)) ∈ lw_all := lw_g (lw_at lw_m6 95 rfl) rfl
theorem q1375 : (Jvm.Cond.code ({ cls := "PeacockLawns", name := "lambda$shear$6", desc := "(IIILPeacockLawns$Garden;)I" } : Jvm.MethodName) prog_1_method_61_code (4 : Nat) (Option.some Jvm.ClassFile.FieldType.int)) ∈ lw_all := lw_g (lw_at lw_m6 96 rfl) rfl
theorem q1376 : (Jvm.Cond.methodLink "PeacockLawns" (432 : Nat) ({ cls := "PeacockLawns$Garden", name := "shear", desc := "(III)I" } : Jvm.MethodName)) ∈ lw_all := lw_g (lw_at lw_m6 97 rfl) rfl
theorem q1391 : (Jvm.Cond.instanceMethod ({ cls := "PeacockLawns", name := "find", desc := "(I)I" } : Jvm.MethodName)) ∈ lw_all := lw_g (lw_at lw_m6 112 rfl) rfl
theorem q1392 : (Jvm.Cond.selects "PeacockLawns" ({ cls := "PeacockLawns", name := "find", desc := "(I)I" } : Jvm.MethodName) ({ cls := "PeacockLawns", name := "find", desc := "(I)I" } : Jvm.MethodName)) ∈ lw_all := lw_g (lw_at lw_m6 113 rfl) rfl
theorem q1393 : (Jvm.Cond.code ({ cls := "PeacockLawns", name := "find", desc := "(I)I" } : Jvm.MethodName) prog_1_method_29_code (2 : Nat) (Option.some Jvm.ClassFile.FieldType.int)) ∈ lw_all := lw_g (lw_at lw_m6 114 rfl) rfl
theorem q1394 : (Jvm.Cond.static ({ cls := "PeacockLawns", name := "lambda$find$7", desc := "(ILPeacockLawns$Garden;)I" } : Jvm.MethodName)) ∈ lw_all := lw_g (lw_at lw_m6 115 rfl) rfl
theorem q1395 : (Jvm.Cond.code ({ cls := "PeacockLawns", name := "lambda$find$7", desc := "(ILPeacockLawns$Garden;)I" } : Jvm.MethodName) prog_1_method_60_code (2 : Nat) (Option.some Jvm.ClassFile.FieldType.int)) ∈ lw_all := lw_g (lw_at lw_m6 116 rfl) rfl
theorem q1396 : (Jvm.Cond.methodLink "PeacockLawns" (429 : Nat) ({ cls := "PeacockLawns$Garden", name := "find", desc := "(I)I" } : Jvm.MethodName)) ∈ lw_all := lw_g (lw_at lw_m6 117 rfl) rfl
theorem q1408 : (Jvm.Cond.instanceMethod ({ cls := "PeacockLawns", name := "sell", desc := "(I)I" } : Jvm.MethodName)) ∈ lw_all := lw_g (lw_at lw_m6 129 rfl) rfl
theorem q1409 : (Jvm.Cond.selects "PeacockLawns" ({ cls := "PeacockLawns", name := "sell", desc := "(I)I" } : Jvm.MethodName) ({ cls := "PeacockLawns", name := "sell", desc := "(I)I" } : Jvm.MethodName)) ∈ lw_all := lw_g (lw_at lw_m6 130 rfl) rfl
theorem q1410 : (Jvm.Cond.code ({ cls := "PeacockLawns", name := "sell", desc := "(I)I" } : Jvm.MethodName) prog_1_method_30_code (2 : Nat) (Option.some Jvm.ClassFile.FieldType.int)) ∈ lw_all := lw_g (lw_at lw_m6 131 rfl) rfl
theorem q1411 : (Jvm.Cond.static ({ cls := "PeacockLawns", name := "lambda$sell$8", desc := "(ILPeacockLawns$Garden;)I" } : Jvm.MethodName)) ∈ lw_all := lw_g (lw_at lw_m6 132 rfl) rfl
theorem q1412 : (Jvm.Cond.code ({ cls := "PeacockLawns", name := "lambda$sell$8", desc := "(ILPeacockLawns$Garden;)I" } : Jvm.MethodName) prog_1_method_59_code (2 : Nat) (Option.some Jvm.ClassFile.FieldType.int)) ∈ lw_all := lw_g (lw_at lw_m6 133 rfl) rfl
theorem q1413 : (Jvm.Cond.methodLink "PeacockLawns" (426 : Nat) ({ cls := "PeacockLawns$Garden", name := "sell", desc := "(I)I" } : Jvm.MethodName)) ∈ lw_all := lw_g (lw_at lw_m6 134 rfl) rfl
theorem q1421 : (Jvm.Cond.instanceMethod ({ cls := "PeacockLawns", name := "bench", desc := "(I)I" } : Jvm.MethodName)) ∈ lw_all := lw_g (lw_at lw_m6 142 rfl) rfl
theorem q1422 : (Jvm.Cond.selects "PeacockLawns" ({ cls := "PeacockLawns", name := "bench", desc := "(I)I" } : Jvm.MethodName) ({ cls := "PeacockLawns", name := "bench", desc := "(I)I" } : Jvm.MethodName)) ∈ lw_all := lw_g (lw_at lw_m6 143 rfl) rfl
theorem q1423 : (Jvm.Cond.code ({ cls := "PeacockLawns", name := "bench", desc := "(I)I" } : Jvm.MethodName) prog_1_method_31_code (2 : Nat) (Option.some Jvm.ClassFile.FieldType.int)) ∈ lw_all := lw_g (lw_at lw_m6 144 rfl) rfl
theorem q1424 : (Jvm.Cond.static ({ cls := "PeacockLawns", name := "lambda$bench$9", desc := "(ILPeacockLawns$Garden;)I" } : Jvm.MethodName)) ∈ lw_all := lw_g (lw_at lw_m6 145 rfl) rfl
theorem q1425 : (Jvm.Cond.code ({ cls := "PeacockLawns", name := "lambda$bench$9", desc := "(ILPeacockLawns$Garden;)I" } : Jvm.MethodName) prog_1_method_58_code (2 : Nat) (Option.some Jvm.ClassFile.FieldType.int)) ∈ lw_all := lw_g (lw_at lw_m6 146 rfl) rfl
theorem q1427 : (Jvm.Cond.methodLink "PeacockLawns" (420 : Nat) ({ cls := "PeacockLawns$Bench", name := "<init>", desc := "(I)V" } : Jvm.MethodName)) ∈ lw_all := lw_g (lw_at lw_m6 148 rfl) rfl
theorem q1435 : (Jvm.Cond.fieldLinkNest "PeacockLawns" (212 : Nat) "PeacockLawns$Bench" "lawn" "I" "PeacockLawns") ∈ lw_tbl := lw_at lw_m6 156 rfl
theorem q1439 : (Jvm.Cond.fieldLinkNest "PeacockLawns" (259 : Nat) "PeacockLawns$Bench" "visitors" "I" "PeacockLawns") ∈ lw_tbl := lw_at lw_m6 160 rfl
theorem q1441 : (Jvm.Cond.fieldLinkNest "PeacockLawns" (262 : Nat) "PeacockLawns$Bench" "came" "I" "PeacockLawns") ∈ lw_tbl := lw_at lw_m6 162 rfl
theorem q1453 : (Jvm.Cond.instanceMethod ({ cls := "PeacockLawns", name := "seat", desc := "(II)I" } : Jvm.MethodName)) ∈ lw_all := lw_g (lw_at lw_m6 174 rfl) rfl
theorem q1454 : (Jvm.Cond.selects "PeacockLawns" ({ cls := "PeacockLawns", name := "seat", desc := "(II)I" } : Jvm.MethodName) ({ cls := "PeacockLawns", name := "seat", desc := "(II)I" } : Jvm.MethodName)) ∈ lw_all := lw_g (lw_at lw_m6 175 rfl) rfl
theorem q1455 : (Jvm.Cond.code ({ cls := "PeacockLawns", name := "seat", desc := "(II)I" } : Jvm.MethodName) prog_1_method_32_code (3 : Nat) (Option.some Jvm.ClassFile.FieldType.int)) ∈ lw_all := lw_g (lw_at lw_m6 176 rfl) rfl
theorem q1456 : (Jvm.Cond.static ({ cls := "PeacockLawns", name := "lambda$seat$10", desc := "(IILPeacockLawns$Garden;)I" } : Jvm.MethodName)) ∈ lw_all := lw_g (lw_at lw_m6 177 rfl) rfl
theorem q1457 : (Jvm.Cond.code ({ cls := "PeacockLawns", name := "lambda$seat$10", desc := "(IILPeacockLawns$Garden;)I" } : Jvm.MethodName) prog_1_method_57_code (3 : Nat) (Option.some Jvm.ClassFile.FieldType.int)) ∈ lw_all := lw_g (lw_at lw_m6 178 rfl) rfl
theorem q1458 : (Jvm.Cond.methodLink "PeacockLawns" (417 : Nat) ({ cls := "PeacockLawns$Garden", name := "seat", desc := "(II)I" } : Jvm.MethodName)) ∈ lw_all := lw_g (lw_at lw_m6 179 rfl) rfl
theorem q1472 : (Jvm.Cond.instanceMethod ({ cls := "PeacockLawns", name := "benchOf", desc := "(II)I" } : Jvm.MethodName)) ∈ lw_all := lw_g (lw_at lw_m6 193 rfl) rfl
theorem q1473 : (Jvm.Cond.selects "PeacockLawns" ({ cls := "PeacockLawns", name := "benchOf", desc := "(II)I" } : Jvm.MethodName) ({ cls := "PeacockLawns", name := "benchOf", desc := "(II)I" } : Jvm.MethodName)) ∈ lw_all := lw_g (lw_at lw_m6 194 rfl) rfl
theorem q1474 : (Jvm.Cond.code ({ cls := "PeacockLawns", name := "benchOf", desc := "(II)I" } : Jvm.MethodName) prog_1_method_33_code (4 : Nat) (Option.some Jvm.ClassFile.FieldType.int)) ∈ lw_all := lw_g (lw_at lw_m6 195 rfl) rfl
theorem q1479 : (Jvm.Cond.instanceMethod ({ cls := "PeacockLawns", name := "pass", desc := "(I)I" } : Jvm.MethodName)) ∈ lw_all := lw_g (lw_at lw_m6 200 rfl) rfl
theorem q1480 : (Jvm.Cond.selects "PeacockLawns" ({ cls := "PeacockLawns", name := "pass", desc := "(I)I" } : Jvm.MethodName) ({ cls := "PeacockLawns", name := "pass", desc := "(I)I" } : Jvm.MethodName)) ∈ lw_all := lw_g (lw_at lw_m6 201 rfl) rfl
theorem q1481 : (Jvm.Cond.code ({ cls := "PeacockLawns", name := "pass", desc := "(I)I" } : Jvm.MethodName) prog_1_method_34_code (2 : Nat) (Option.some Jvm.ClassFile.FieldType.int)) ∈ lw_all := lw_g (lw_at lw_m6 202 rfl) rfl
theorem q1482 : (Jvm.Cond.static ({ cls := "PeacockLawns", name := "lambda$pass$11", desc := "(ILPeacockLawns$Garden;)I" } : Jvm.MethodName)) ∈ lw_all := lw_g (lw_at lw_m6 203 rfl) rfl
theorem q1483 : (Jvm.Cond.code ({ cls := "PeacockLawns", name := "lambda$pass$11", desc := "(ILPeacockLawns$Garden;)I" } : Jvm.MethodName) prog_1_method_56_code (2 : Nat) (Option.some Jvm.ClassFile.FieldType.int)) ∈ lw_all := lw_g (lw_at lw_m6 204 rfl) rfl
theorem q1484 : (Jvm.Cond.methodLink "PeacockLawns" (414 : Nat) ({ cls := "PeacockLawns$Garden", name := "pass", desc := "(I)I" } : Jvm.MethodName)) ∈ lw_all := lw_g (lw_at lw_m6 205 rfl) rfl
theorem q1550 : (Jvm.Cond.instanceMethod ({ cls := "PeacockLawns", name := "hatchesIn", desc := "(I)I" } : Jvm.MethodName)) ∈ lw_all := lw_g (lw_at lw_m7 31 rfl) rfl
theorem q1551 : (Jvm.Cond.selects "PeacockLawns" ({ cls := "PeacockLawns", name := "hatchesIn", desc := "(I)I" } : Jvm.MethodName) ({ cls := "PeacockLawns", name := "hatchesIn", desc := "(I)I" } : Jvm.MethodName)) ∈ lw_all := lw_g (lw_at lw_m7 32 rfl) rfl
theorem q1552 : (Jvm.Cond.code ({ cls := "PeacockLawns", name := "hatchesIn", desc := "(I)I" } : Jvm.MethodName) prog_1_method_35_code (6 : Nat) (Option.some Jvm.ClassFile.FieldType.int)) ∈ lw_all := lw_g (lw_at lw_m7 33 rfl) rfl
theorem q1553 : (Jvm.Cond.methodLink "PeacockLawns" (266 : Nat) ({ cls := "PeacockLawns$Bird", name := "isSitting", desc := "()Z" } : Jvm.MethodName)) ∈ lw_all := lw_g (lw_at lw_m7 34 rfl) rfl
theorem q1554 : (Jvm.Cond.methodLink "PeacockLawns" (269 : Nat) ({ cls := "PeacockLawns$Garden", name := "live", desc := "()I" } : Jvm.MethodName)) ∈ lw_all := lw_g (lw_at lw_m7 35 rfl) rfl
theorem q1559 : (Jvm.Cond.instanceMethod ({ cls := "PeacockLawns", name := "wouldShed", desc := "(I)I" } : Jvm.MethodName)) ∈ lw_all := lw_g (lw_at lw_m7 40 rfl) rfl
theorem q1560 : (Jvm.Cond.selects "PeacockLawns" ({ cls := "PeacockLawns", name := "wouldShed", desc := "(I)I" } : Jvm.MethodName) ({ cls := "PeacockLawns", name := "wouldShed", desc := "(I)I" } : Jvm.MethodName)) ∈ lw_all := lw_g (lw_at lw_m7 41 rfl) rfl
theorem q1561 : (Jvm.Cond.code ({ cls := "PeacockLawns", name := "wouldShed", desc := "(I)I" } : Jvm.MethodName) prog_1_method_36_code (5 : Nat) (Option.some Jvm.ClassFile.FieldType.int)) ∈ lw_all := lw_g (lw_at lw_m7 42 rfl) rfl
theorem q1566 : (Jvm.Cond.instanceMethod ({ cls := "PeacockLawns", name := "line", desc := "(I)I" } : Jvm.MethodName)) ∈ lw_all := lw_g (lw_at lw_m7 47 rfl) rfl
theorem q1567 : (Jvm.Cond.selects "PeacockLawns" ({ cls := "PeacockLawns", name := "line", desc := "(I)I" } : Jvm.MethodName) ({ cls := "PeacockLawns", name := "line", desc := "(I)I" } : Jvm.MethodName)) ∈ lw_all := lw_g (lw_at lw_m7 48 rfl) rfl
theorem q1568 : (Jvm.Cond.code ({ cls := "PeacockLawns", name := "line", desc := "(I)I" } : Jvm.MethodName) prog_1_method_38_code (6 : Nat) (Option.some Jvm.ClassFile.FieldType.int)) ∈ lw_all := lw_g (lw_at lw_m7 49 rfl) rfl
theorem q1569 : (Jvm.Cond.methodLink "PeacockLawns" (275 : Nat) ({ cls := "java/lang/StringBuilder", name := "append", desc := "(I)Ljava/lang/StringBuilder;" } : Jvm.MethodName)) ∈ lw_all := lw_g (lw_at lw_m7 50 rfl) rfl
theorem q1570 : (Jvm.Cond.methodLink "PeacockLawns" (279 : Nat) ({ cls := "java/lang/StringBuilder", name := "append", desc := "(C)Ljava/lang/StringBuilder;" } : Jvm.MethodName)) ∈ lw_all := lw_g (lw_at lw_m7 51 rfl) rfl
theorem q1590 : (Jvm.Cond.stringRef "PeacockLawns" (282 : Nat) " h") ∈ lw_tbl := lw_at lw_m7 71 rfl
theorem q1591 : (Jvm.Cond.stringRef "PeacockLawns" (284 : Nat) " c") ∈ lw_tbl := lw_at lw_m7 72 rfl
theorem q1592 : (Jvm.Cond.methodLink "PeacockLawns" (286 : Nat) ({ cls := "java/lang/StringBuilder", name := "append", desc := "(Ljava/lang/String;)Ljava/lang/StringBuilder;" } : Jvm.MethodName)) ∈ lw_all := lw_g (lw_at lw_m7 73 rfl) rfl
theorem q1593 : (Jvm.Cond.stringRef "PeacockLawns" (289 : Nat) "+") ∈ lw_tbl := lw_at lw_m7 74 rfl
theorem q1594 : (Jvm.Cond.methodLink "PeacockLawns" (291 : Nat) ({ cls := "java/lang/StringBuilder", name := "toString", desc := "()Ljava/lang/String;" } : Jvm.MethodName)) ∈ lw_all := lw_g (lw_at lw_m7 75 rfl) rfl
theorem q1595 : (Jvm.Cond.stringRef "PeacockLawns" (295 : Nat) " f") ∈ lw_tbl := lw_at lw_m7 76 rfl
theorem q1596 : (Jvm.Cond.stringRef "PeacockLawns" (297 : Nat) " fox") ∈ lw_tbl := lw_at lw_m7 77 rfl
theorem q1597 : (Jvm.Cond.interfaceEntry "PeacockLawns" (299 : Nat)) ∈ lw_tbl := lw_at lw_m7 78 rfl
theorem q1598 : (Jvm.Cond.methodLink "PeacockLawns" (299 : Nat) ({ cls := "java/lang/CharSequence", name := "length", desc := "()I" } : Jvm.MethodName)) ∈ lw_all := lw_g (lw_at lw_m7 79 rfl) rfl
theorem q1613 : (Jvm.Cond.instanceMethod ({ cls := "PeacockLawns", name := "character", desc := "(I)C" } : Jvm.MethodName)) ∈ lw_all := lw_g (lw_at lw_m7 94 rfl) rfl
theorem q1614 : (Jvm.Cond.selects "PeacockLawns" ({ cls := "PeacockLawns", name := "character", desc := "(I)C" } : Jvm.MethodName) ({ cls := "PeacockLawns", name := "character", desc := "(I)C" } : Jvm.MethodName)) ∈ lw_all := lw_g (lw_at lw_m7 95 rfl) rfl
theorem q1615 : (Jvm.Cond.code ({ cls := "PeacockLawns", name := "character", desc := "(I)C" } : Jvm.MethodName) prog_1_method_39_code (2 : Nat) (Option.some Jvm.ClassFile.FieldType.char)) ∈ lw_all := lw_g (lw_at lw_m7 96 rfl) rfl
theorem q1616 : (Jvm.Cond.interfaceEntry "PeacockLawns" (304 : Nat)) ∈ lw_tbl := lw_at lw_m7 97 rfl
theorem q1617 : (Jvm.Cond.methodLink "PeacockLawns" (304 : Nat) ({ cls := "java/lang/CharSequence", name := "charAt", desc := "(I)C" } : Jvm.MethodName)) ∈ lw_all := lw_g (lw_at lw_m7 98 rfl) rfl
theorem q1651 : (Jvm.Cond.instanceMethod ({ cls := "PeacockLawns", name := "number", desc := "(I)I" } : Jvm.MethodName)) ∈ lw_all := lw_g (lw_at lw_m7 132 rfl) rfl
theorem q1652 : (Jvm.Cond.selects "PeacockLawns" ({ cls := "PeacockLawns", name := "number", desc := "(I)I" } : Jvm.MethodName) ({ cls := "PeacockLawns", name := "number", desc := "(I)I" } : Jvm.MethodName)) ∈ lw_all := lw_g (lw_at lw_m7 133 rfl) rfl
theorem q1653 : (Jvm.Cond.code ({ cls := "PeacockLawns", name := "number", desc := "(I)I" } : Jvm.MethodName) prog_1_method_41_code (3 : Nat) (Option.some Jvm.ClassFile.FieldType.int)) ∈ lw_all := lw_g (lw_at lw_m7 134 rfl) rfl
theorem q1654 : (Jvm.Cond.methodLink "PeacockLawns" (311 : Nat) ({ cls := "PeacockLawns$Garden", name := "month", desc := "()I" } : Jvm.MethodName)) ∈ lw_all := lw_g (lw_at lw_m7 135 rfl) rfl
theorem q1655 : (Jvm.Cond.static ({ cls := "PeacockLawns", name := "lambda$number$12", desc := "(LPeacockLawns$Bird;)Z" } : Jvm.MethodName)) ∈ lw_all := lw_g (lw_at lw_m7 136 rfl) rfl
theorem q1656 : (Jvm.Cond.code ({ cls := "PeacockLawns", name := "lambda$number$12", desc := "(LPeacockLawns$Bird;)Z" } : Jvm.MethodName) prog_1_method_55_code (1 : Nat) (Option.some Jvm.ClassFile.FieldType.boolean)) ∈ lw_all := lw_g (lw_at lw_m7 137 rfl) rfl
theorem q1657 : (Jvm.Cond.methodLink "PeacockLawns" (411 : Nat) ({ cls := "PeacockLawns$Bird", name := "isCock", desc := "()Z" } : Jvm.MethodName)) ∈ lw_all := lw_g (lw_at lw_m7 138 rfl) rfl
theorem q1658 : (Jvm.Cond.static ({ cls := "PeacockLawns", name := "lambda$number$13", desc := "(LPeacockLawns$Bird;)I" } : Jvm.MethodName)) ∈ lw_all := lw_g (lw_at lw_m7 139 rfl) rfl
theorem q1659 : (Jvm.Cond.code ({ cls := "PeacockLawns", name := "lambda$number$13", desc := "(LPeacockLawns$Bird;)I" } : Jvm.MethodName) prog_1_method_54_code (1 : Nat) (Option.some Jvm.ClassFile.FieldType.int)) ∈ lw_all := lw_g (lw_at lw_m7 140 rfl) rfl
theorem q1660 : (Jvm.Cond.methodLink "PeacockLawns" (321 : Nat) ({ cls := "PeacockLawns$Garden", name := "sumOf", desc := "(LPeacockLawns$Part;)I" } : Jvm.MethodName)) ∈ lw_all := lw_g (lw_at lw_m7 141 rfl) rfl
theorem q1661 : (Jvm.Cond.methodLink "PeacockLawns" (345 : Nat) ({ cls := "PeacockLawns", name := "visitors", desc := "()I" } : Jvm.MethodName)) ∈ lw_all := lw_g (lw_at lw_m7 142 rfl) rfl
theorem q1662 : (Jvm.Cond.privateMethod ({ cls := "PeacockLawns", name := "visitors", desc := "()I" } : Jvm.MethodName)) ∈ lw_tbl := lw_at lw_m7 143 rfl
theorem q1663 : (Jvm.Cond.instanceMethod ({ cls := "PeacockLawns", name := "visitors", desc := "()I" } : Jvm.MethodName)) ∈ lw_all := lw_g (lw_at lw_m7 144 rfl) rfl
theorem q1664 : (Jvm.Cond.code ({ cls := "PeacockLawns", name := "visitors", desc := "()I" } : Jvm.MethodName) prog_1_method_40_code (4 : Nat) (Option.some Jvm.ClassFile.FieldType.int)) ∈ lw_all := lw_g (lw_at lw_m7 145 rfl) rfl
theorem q1665 : (Jvm.Cond.methodLink "PeacockLawns" (353 : Nat) ({ cls := "java/lang/StringBuilder", name := "length", desc := "()I" } : Jvm.MethodName)) ∈ lw_all := lw_g (lw_at lw_m7 146 rfl) rfl
theorem q1684 : (Jvm.Cond.instanceMethod ({ cls := "PeacockLawns", name := "foundShare", desc := "()F" } : Jvm.MethodName)) ∈ lw_all := lw_g (lw_at lw_m7 165 rfl) rfl
theorem q1685 : (Jvm.Cond.selects "PeacockLawns" ({ cls := "PeacockLawns", name := "foundShare", desc := "()F" } : Jvm.MethodName) ({ cls := "PeacockLawns", name := "foundShare", desc := "()F" } : Jvm.MethodName)) ∈ lw_all := lw_g (lw_at lw_m7 166 rfl) rfl
theorem q1686 : (Jvm.Cond.code ({ cls := "PeacockLawns", name := "foundShare", desc := "()F" } : Jvm.MethodName) prog_1_method_44_code (1 : Nat) (Option.some Jvm.ClassFile.FieldType.float)) ∈ lw_all := lw_g (lw_at lw_m7 167 rfl) rfl
theorem q1687 : (Jvm.Cond.classLink "PeacockLawns" (356 : Nat) "java/lang/ArithmeticException") ∈ lw_all := lw_g (lw_at lw_m7 168 rfl) rfl
theorem q1688 : (Jvm.Cond.methodLink "PeacockLawns" (358 : Nat) ({ cls := "java/lang/ArithmeticException", name := "<init>", desc := "()V" } : Jvm.MethodName)) ∈ lw_all := lw_g (lw_at lw_m7 169 rfl) rfl
theorem q1697 : (Jvm.Cond.instanceMethod ({ cls := "PeacockLawns", name := "feed", desc := "(C)I" } : Jvm.MethodName)) ∈ lw_all := lw_g (lw_at lw_m7 178 rfl) rfl
theorem q1698 : (Jvm.Cond.selects "PeacockLawns" ({ cls := "PeacockLawns", name := "feed", desc := "(C)I" } : Jvm.MethodName) ({ cls := "PeacockLawns", name := "feed", desc := "(C)I" } : Jvm.MethodName)) ∈ lw_all := lw_g (lw_at lw_m7 179 rfl) rfl
theorem q1699 : (Jvm.Cond.code ({ cls := "PeacockLawns", name := "feed", desc := "(C)I" } : Jvm.MethodName) prog_1_method_45_code (2 : Nat) (Option.some Jvm.ClassFile.FieldType.int)) ∈ lw_all := lw_g (lw_at lw_m7 180 rfl) rfl
theorem q1700 : (Jvm.Cond.methodLink "PeacockLawns" (359 : Nat) ({ cls := "PeacockLawns", name := "requireState", desc := "(Z)V" } : Jvm.MethodName)) ∈ lw_all := lw_g (lw_at lw_m7 181 rfl) rfl
theorem q1701 : (Jvm.Cond.static ({ cls := "PeacockLawns", name := "requireState", desc := "(Z)V" } : Jvm.MethodName)) ∈ lw_all := lw_g (lw_at lw_m7 182 rfl) rfl
theorem q1702 : (Jvm.Cond.code ({ cls := "PeacockLawns", name := "requireState", desc := "(Z)V" } : Jvm.MethodName) prog_1_method_4_code (1 : Nat) (Option.none : Option Jvm.ClassFile.FieldType)) ∈ lw_all := lw_g (lw_at lw_m7 183 rfl) rfl
theorem q1703 : (Jvm.Cond.classLink "PeacockLawns" (10 : Nat) "java/lang/IllegalStateException") ∈ lw_all := lw_g (lw_at lw_m7 184 rfl) rfl
theorem q1704 : (Jvm.Cond.methodLink "PeacockLawns" (12 : Nat) ({ cls := "java/lang/IllegalStateException", name := "<init>", desc := "()V" } : Jvm.MethodName)) ∈ lw_all := lw_g (lw_at lw_m7 185 rfl) rfl
theorem q1712 : (Jvm.Cond.instanceMethod ({ cls := "PeacockLawns", name := "read", desc := "()I" } : Jvm.MethodName)) ∈ lw_all := lw_g (lw_at lw_m7 193 rfl) rfl
theorem q1713 : (Jvm.Cond.selects "PeacockLawns" ({ cls := "PeacockLawns", name := "read", desc := "()I" } : Jvm.MethodName) ({ cls := "PeacockLawns", name := "read", desc := "()I" } : Jvm.MethodName)) ∈ lw_all := lw_g (lw_at lw_m7 194 rfl) rfl
theorem q1714 : (Jvm.Cond.codeWith ({ cls := "PeacockLawns", name := "read", desc := "()I" } : Jvm.MethodName) prog_1_method_48_code (4 : Nat) (Option.some Jvm.ClassFile.FieldType.int) [((22 : Nat), (27 : Nat), (30 : Nat), (16 : Nat))]) ∈ lw_all := lw_g (lw_at lw_m7 195 rfl) rfl
theorem q1715 : (Jvm.Cond.methodLink "PeacockLawns" (383 : Nat) ({ cls := "PeacockLawns", name := "taken", desc := "()Ljava/util/List;" } : Jvm.MethodName)) ∈ lw_all := lw_g (lw_at lw_m7 196 rfl) rfl
theorem q1716 : (Jvm.Cond.privateMethod ({ cls := "PeacockLawns", name := "taken", desc := "()Ljava/util/List;" } : Jvm.MethodName)) ∈ lw_tbl := lw_at lw_m7 197 rfl
theorem q1717 : (Jvm.Cond.instanceMethod ({ cls := "PeacockLawns", name := "taken", desc := "()Ljava/util/List;" } : Jvm.MethodName)) ∈ lw_all := lw_g (lw_at lw_m7 198 rfl) rfl
theorem q1718 : (Jvm.Cond.codeWith ({ cls := "PeacockLawns", name := "taken", desc := "()Ljava/util/List;" } : Jvm.MethodName) prog_1_method_46_code (4 : Nat) (Option.some (Jvm.ClassFile.FieldType.object "java/util/List")) [((0 : Nat), (12 : Nat), (22 : Nat), (375 : Nat)), ((0 : Nat), (12 : Nat), (43 : Nat), (0 : Nat)), ((22 : Nat), (33 : Nat), (43 : Nat), (0 : Nat))]) ∈ lw_all := lw_g (lw_at lw_m7 199 rfl) rfl
theorem q1719 : (Jvm.Cond.classLink "PeacockLawns" (375 : Nat) "PeacockLawns$FaultException") ∈ lw_all := lw_g (lw_at lw_m7 200 rfl) rfl
theorem q1720 : (Jvm.Cond.classLink "PeacockLawns" (362 : Nat) "PeacockLawns$Parser") ∈ lw_all := lw_g (lw_at lw_m7 201 rfl) rfl
theorem q1722 : (Jvm.Cond.methodLinkNest "PeacockLawns" (364 : Nat) ({ cls := "PeacockLawns$Parser", name := "<init>", desc := "(LPeacockLawns;)V" } : Jvm.MethodName) "PeacockLawns") ∈ lw_tbl := lw_at lw_m7 203 rfl
theorem q1733 : (Jvm.Cond.methodLink "PeacockLawns" (367 : Nat) ({ cls := "PeacockLawns$Parser", name := "text", desc := "()Ljava/util/List;" } : Jvm.MethodName)) ∈ lw_all := lw_g (lw_at lw_m7 214 rfl) rfl
theorem q1813 : (Jvm.Cond.fieldLinkNest "PeacockLawns" (377 : Nat) "PeacockLawns$FaultException" "position" "I" "PeacockLawns") ∈ lw_tbl := lw_at lw_m8 54 rfl
theorem q1948 : (Jvm.Cond.methodLink "PeacockLawns" (371 : Nat) ({ cls := "java/lang/StringBuilder", name := "setLength", desc := "(I)V" } : Jvm.MethodName)) ∈ lw_all := lw_g (lw_at lw_m8 189 rfl) rfl
theorem q2000 : (Jvm.Cond.methodLink "PeacockLawns" (385 : Nat) ({ cls := "PeacockLawns", name := "doAll", desc := "(Ljava/util/List;LPeacockLawns$Garden;)V" } : Jvm.MethodName)) ∈ lw_all := lw_g (lw_at lw_m9 1 rfl) rfl
theorem q2001 : (Jvm.Cond.static ({ cls := "PeacockLawns", name := "doAll", desc := "(Ljava/util/List;LPeacockLawns$Garden;)V" } : Jvm.MethodName)) ∈ lw_all := lw_g (lw_at lw_m9 2 rfl) rfl
theorem q2002 : (Jvm.Cond.codeWith ({ cls := "PeacockLawns", name := "doAll", desc := "(Ljava/util/List;LPeacockLawns$Garden;)V" } : Jvm.MethodName) prog_1_method_47_code (6 : Nat) (Option.none : Option Jvm.ClassFile.FieldType) [((29 : Nat), (39 : Nat), (42 : Nat), (16 : Nat)), ((29 : Nat), (39 : Nat), (42 : Nat), (7 : Nat)), ((29 : Nat), (39 : Nat), (42 : Nat), (1 : Nat))]) ∈ lw_all := lw_g (lw_at lw_m9 3 rfl) rfl
theorem q2003 : (Jvm.Cond.classLink "PeacockLawns" (84 : Nat) "PeacockLawns$Deed") ∈ lw_all := lw_g (lw_at lw_m9 4 rfl) rfl
theorem q2004 : (Jvm.Cond.methodLink "PeacockLawns" (380 : Nat) ({ cls := "PeacockLawns$Refusal", name := "<init>", desc := "(IILjava/lang/Exception;)V" } : Jvm.MethodName)) ∈ lw_all := lw_g (lw_at lw_m9 5 rfl) rfl
theorem q2009 : (Jvm.Cond.instanceMethod ({ cls := "PeacockLawns", name := "faultPosition", desc := "()I" } : Jvm.MethodName)) ∈ lw_all := lw_g (lw_at lw_m9 10 rfl) rfl
theorem q2010 : (Jvm.Cond.selects "PeacockLawns" ({ cls := "PeacockLawns", name := "faultPosition", desc := "()I" } : Jvm.MethodName) ({ cls := "PeacockLawns", name := "faultPosition", desc := "()I" } : Jvm.MethodName)) ∈ lw_all := lw_g (lw_at lw_m9 11 rfl) rfl
theorem q2011 : (Jvm.Cond.code ({ cls := "PeacockLawns", name := "faultPosition", desc := "()I" } : Jvm.MethodName) prog_1_method_49_code (1 : Nat) (Option.some Jvm.ClassFile.FieldType.int)) ∈ lw_all := lw_g (lw_at lw_m9 12 rfl) rfl
theorem q2016 : (Jvm.Cond.instanceMethod ({ cls := "PeacockLawns", name := "refusal", desc := "(IZ)I" } : Jvm.MethodName)) ∈ lw_all := lw_g (lw_at lw_m9 17 rfl) rfl
theorem q2017 : (Jvm.Cond.selects "PeacockLawns" ({ cls := "PeacockLawns", name := "refusal", desc := "(IZ)I" } : Jvm.MethodName) ({ cls := "PeacockLawns", name := "refusal", desc := "(IZ)I" } : Jvm.MethodName)) ∈ lw_all := lw_g (lw_at lw_m9 18 rfl) rfl
theorem q2018 : (Jvm.Cond.code ({ cls := "PeacockLawns", name := "refusal", desc := "(IZ)I" } : Jvm.MethodName) prog_1_method_50_code (5 : Nat) (Option.some Jvm.ClassFile.FieldType.int)) ∈ lw_all := lw_g (lw_at lw_m9 19 rfl) rfl
theorem q2019 : (Jvm.Cond.methodLink "PeacockLawns" (389 : Nat) ({ cls := "PeacockLawns$Refusal", name := "getCause", desc := "()Ljava/lang/Throwable;" } : Jvm.MethodName)) ∈ lw_all := lw_g (lw_at lw_m9 20 rfl) rfl
theorem q2029 : (Jvm.Cond.instanceMethod ({ cls := "PeacockLawns", name := "undo", desc := "()I" } : Jvm.MethodName)) ∈ lw_all := lw_g (lw_at lw_m9 30 rfl) rfl
theorem q2030 : (Jvm.Cond.selects "PeacockLawns" ({ cls := "PeacockLawns", name := "undo", desc := "()I" } : Jvm.MethodName) ({ cls := "PeacockLawns", name := "undo", desc := "()I" } : Jvm.MethodName)) ∈ lw_all := lw_g (lw_at lw_m9 31 rfl) rfl
theorem q2031 : (Jvm.Cond.code ({ cls := "PeacockLawns", name := "undo", desc := "()I" } : Jvm.MethodName) prog_1_method_51_code (1 : Nat) (Option.some Jvm.ClassFile.FieldType.int)) ∈ lw_all := lw_g (lw_at lw_m9 32 rfl) rfl
theorem q2032 : (Jvm.Cond.methodLink "PeacockLawns" (399 : Nat) ({ cls := "java/util/ArrayDeque", name := "isEmpty", desc := "()Z" } : Jvm.MethodName)) ∈ lw_all := lw_g (lw_at lw_m9 33 rfl) rfl
theorem q2036 : (Jvm.Cond.methodLink "PeacockLawns" (402 : Nat) ({ cls := "java/util/ArrayDeque", name := "pop", desc := "()Ljava/lang/Object;" } : Jvm.MethodName)) ∈ lw_all := lw_g (lw_at lw_m9 37 rfl) rfl
theorem q2055 : (Jvm.Cond.instanceMethod ({ cls := "PeacockLawns", name := "restoreSnapshot", desc := "()I" } : Jvm.MethodName)) ∈ lw_all := lw_g (lw_at lw_m9 56 rfl) rfl
theorem q2056 : (Jvm.Cond.selects "PeacockLawns" ({ cls := "PeacockLawns", name := "restoreSnapshot", desc := "()I" } : Jvm.MethodName) ({ cls := "PeacockLawns", name := "restoreSnapshot", desc := "()I" } : Jvm.MethodName)) ∈ lw_all := lw_g (lw_at lw_m9 57 rfl) rfl
theorem q2057 : (Jvm.Cond.code ({ cls := "PeacockLawns", name := "restoreSnapshot", desc := "()I" } : Jvm.MethodName) prog_1_method_53_code (1 : Nat) (Option.some Jvm.ClassFile.FieldType.int)) ∈ lw_all := lw_g (lw_at lw_m9 58 rfl) rfl
theorem q2058 : (Jvm.Cond.methodLink "PeacockLawns" (408 : Nat) ({ cls := "java/util/ArrayDeque", name := "clear", desc := "()V" } : Jvm.MethodName)) ∈ lw_all := lw_g (lw_at lw_m9 59 rfl) rfl
theorem q2598 : (Jvm.Cond.castable "PeacockLawns" "java/lang/Object") ∈ lw_tbl := lw_at lw_m11 119 rfl
theorem in_X1 : ∀ w ∈ wsX10, w ∈ lw_all := lw_in wsX10 [288, 290, 292, 294, 296, 298, 300] (by decide +kernel) (by decide +kernel)
