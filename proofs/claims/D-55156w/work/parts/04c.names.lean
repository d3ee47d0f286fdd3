/-! PeacockLawns$Bird -/
set_option maxRecDepth 100000
def RX4 : String := "PeacockLawns$Bird"
def TX4 : u_T := fun k => match k with
  | 0 => ("PeacockLawns$Bird", "isHen", "Z", true)
  | 1 => ("PeacockLawns$Bird", "lawn", "I", true)
  | 2 => ("PeacockLawns$Bird", "much", "I", true)
  | 3 => ("PeacockLawns$Bird", "voice", "I", true)
  | 4 => ("PeacockLawns$Bird", "parent", "I", true)
  | _ => ("PeacockLawns$Bird", "shed", "I", true)
def tyX4 : Nat → FieldType := fun k => match k with
  | 0 => .boolean
  | 1 => .int
  | 2 => .int
  | 3 => .int
  | 4 => .int
  | _ => .int
abbrev wsX40 : List Cond := u_ws RX4 TX4 6
theorem nmX4 : ∀ a, a < 6 → ∀ b, b < 6 → a ≠ b → (TX4 a).2.1 ≠ (TX4 b).2.1 := by decide +kernel
theorem tyX4_ok : ∀ k, k < 6 → parseFieldDescriptor (TX4 k).2.2.1 = some (tyX4 k) := by decide +kernel
abbrev cX4_isCock : ByteArray := prog_3_method_4_code
def yX4_isCock : MethodName := ⟨RX4, "isCock", "()Z"⟩
def dkwX4_isCock_0 : List UInt8 := [42, 180, 0, 14, 154, 0, 7, 4, 167, 0, 4, 3, 172]
abbrev dktX4_isCock_0 : List UInt8 := dkwX4_isCock_0 ++ []
theorem dksX4_isCock_0 : cX4_isCock.data.toList.drop 0 = dktX4_isCock_0 := by decide +kernel
theorem dX4_isCock_0 : decode cX4_isCock 0 = .ok (.aload_n 0, 1) := dk_42 (dk_at dksX4_isCock_0 0 rfl rfl)
theorem dX4_isCock_1 : decode cX4_isCock 1 = .ok (.getfield 14, 3) := dk_180 0 14 (dk_at dksX4_isCock_0 1 rfl rfl)
theorem dX4_isCock_4 : decode cX4_isCock 4 = .ok (.ifCond .ne 7, 3) := dk_154 0 7 (dk_at dksX4_isCock_0 4 rfl rfl)
theorem dX4_isCock_7 : decode cX4_isCock 7 = .ok (.iconst 1, 1) := dk_4 (dk_at dksX4_isCock_0 7 rfl rfl)
theorem dX4_isCock_8 : decode cX4_isCock 8 = .ok (.goto 4, 3) := dk_167 0 4 (dk_at dksX4_isCock_0 8 rfl rfl)
theorem dX4_isCock_11 : decode cX4_isCock 11 = .ok (.iconst 0, 1) := dk_3 (dk_at dksX4_isCock_0 11 rfl rfl)
theorem dX4_isCock_12 : decode cX4_isCock 12 = .ok (.ireturn, 1) := dk_172 (dk_at dksX4_isCock_0 12 rfl rfl)
abbrev cX4_init : ByteArray := prog_3_method_1_code
def yX4_init : MethodName := ⟨RX4, "<init>", "(ZIII)V"⟩
def dkwX4_init_0 : List UInt8 := [42, 27, 28, 29, 21, 4, 2, 3, 183, 0, 3, 177]
abbrev dktX4_init_0 : List UInt8 := dkwX4_init_0 ++ []
theorem dksX4_init_0 : cX4_init.data.toList.drop 0 = dktX4_init_0 := by decide +kernel
theorem dX4_init_0 : decode cX4_init 0 = .ok (.aload_n 0, 1) := dk_42 (dk_at dksX4_init_0 0 rfl rfl)
theorem dX4_init_1 : decode cX4_init 1 = .ok (.iload_n 1, 1) := dk_27 (dk_at dksX4_init_0 1 rfl rfl)
theorem dX4_init_2 : decode cX4_init 2 = .ok (.iload_n 2, 1) := dk_28 (dk_at dksX4_init_0 2 rfl rfl)
theorem dX4_init_3 : decode cX4_init 3 = .ok (.iload_n 3, 1) := dk_29 (dk_at dksX4_init_0 3 rfl rfl)
theorem dX4_init_4 : decode cX4_init 4 = .ok (.iload 4, 2) := dk_21 4 (dk_at dksX4_init_0 4 rfl rfl)
theorem dX4_init_6 : decode cX4_init 6 = .ok (.iconst (-1), 1) := dk_2 (dk_at dksX4_init_0 6 rfl rfl)
theorem dX4_init_7 : decode cX4_init 7 = .ok (.iconst 0, 1) := dk_3 (dk_at dksX4_init_0 7 rfl rfl)
theorem dX4_init_8 : decode cX4_init 8 = .ok (.invokespecial 3, 3) := dk_183 0 3 (dk_at dksX4_init_0 8 rfl rfl)
theorem dX4_init_11 : decode cX4_init 11 = .ok (.return_, 1) := dk_177 (dk_at dksX4_init_0 11 rfl rfl)
abbrev cX4_init_2 : ByteArray := prog_3_method_2_code
def yX4_init_2 : MethodName := ⟨RX4, "<init>", "(ZIIIII)V"⟩
def dkwX4_init_2_1 : List UInt8 := [181, 0, 25, 42, 21, 5, 181, 0, 28, 42, 21, 6, 181, 0, 31, 177]
abbrev dktX4_init_2_1 : List UInt8 := dkwX4_init_2_1 ++ []
def dkwX4_init_2_0 : List UInt8 := [42, 183, 0, 9, 42, 27, 181, 0, 14, 42, 28, 181, 0, 18, 42, 29, 181, 0, 22, 42, 21, 4]
abbrev dktX4_init_2_0 : List UInt8 := dkwX4_init_2_0 ++ dktX4_init_2_1
theorem dksX4_init_2_0 : cX4_init_2.data.toList.drop 0 = dktX4_init_2_0 := by decide +kernel
theorem dksX4_init_2_1 : cX4_init_2.data.toList.drop 22 = dktX4_init_2_1 := dk_seg dksX4_init_2_0 22 rfl rfl
theorem dX4_init_2_0 : decode cX4_init_2 0 = .ok (.aload_n 0, 1) := dk_42 (dk_at dksX4_init_2_0 0 rfl rfl)
theorem dX4_init_2_1 : decode cX4_init_2 1 = .ok (.invokespecial 9, 3) := dk_183 0 9 (dk_at dksX4_init_2_0 1 rfl rfl)
theorem dX4_init_2_4 : decode cX4_init_2 4 = .ok (.aload_n 0, 1) := dk_42 (dk_at dksX4_init_2_0 4 rfl rfl)
theorem dX4_init_2_5 : decode cX4_init_2 5 = .ok (.iload_n 1, 1) := dk_27 (dk_at dksX4_init_2_0 5 rfl rfl)
theorem dX4_init_2_6 : decode cX4_init_2 6 = .ok (.putfield 14, 3) := dk_181 0 14 (dk_at dksX4_init_2_0 6 rfl rfl)
theorem dX4_init_2_9 : decode cX4_init_2 9 = .ok (.aload_n 0, 1) := dk_42 (dk_at dksX4_init_2_0 9 rfl rfl)
theorem dX4_init_2_10 : decode cX4_init_2 10 = .ok (.iload_n 2, 1) := dk_28 (dk_at dksX4_init_2_0 10 rfl rfl)
theorem dX4_init_2_11 : decode cX4_init_2 11 = .ok (.putfield 18, 3) := dk_181 0 18 (dk_at dksX4_init_2_0 11 rfl rfl)
theorem dX4_init_2_14 : decode cX4_init_2 14 = .ok (.aload_n 0, 1) := dk_42 (dk_at dksX4_init_2_0 14 rfl rfl)
theorem dX4_init_2_15 : decode cX4_init_2 15 = .ok (.iload_n 3, 1) := dk_29 (dk_at dksX4_init_2_0 15 rfl rfl)
theorem dX4_init_2_16 : decode cX4_init_2 16 = .ok (.putfield 22, 3) := dk_181 0 22 (dk_at dksX4_init_2_0 16 rfl rfl)
theorem dX4_init_2_19 : decode cX4_init_2 19 = .ok (.aload_n 0, 1) := dk_42 (dk_at dksX4_init_2_0 19 rfl rfl)
theorem dX4_init_2_20 : decode cX4_init_2 20 = .ok (.iload 4, 2) := dk_21 4 (dk_at dksX4_init_2_0 20 rfl rfl)
theorem dX4_init_2_22 : decode cX4_init_2 22 = .ok (.putfield 25, 3) := dk_181 0 25 (dk_at dksX4_init_2_1 0 rfl rfl)
theorem dX4_init_2_25 : decode cX4_init_2 25 = .ok (.aload_n 0, 1) := dk_42 (dk_at dksX4_init_2_1 3 rfl rfl)
theorem dX4_init_2_26 : decode cX4_init_2 26 = .ok (.iload 5, 2) := dk_21 5 (dk_at dksX4_init_2_1 4 rfl rfl)
theorem dX4_init_2_28 : decode cX4_init_2 28 = .ok (.putfield 28, 3) := dk_181 0 28 (dk_at dksX4_init_2_1 6 rfl rfl)
theorem dX4_init_2_31 : decode cX4_init_2 31 = .ok (.aload_n 0, 1) := dk_42 (dk_at dksX4_init_2_1 9 rfl rfl)
theorem dX4_init_2_32 : decode cX4_init_2 32 = .ok (.iload 6, 2) := dk_21 6 (dk_at dksX4_init_2_1 10 rfl rfl)
theorem dX4_init_2_34 : decode cX4_init_2 34 = .ok (.putfield 31, 3) := dk_181 0 31 (dk_at dksX4_init_2_1 12 rfl rfl)
theorem dX4_init_2_37 : decode cX4_init_2 37 = .ok (.return_, 1) := dk_177 (dk_at dksX4_init_2_1 15 rfl rfl)
abbrev cX4_with : ByteArray := prog_3_method_9_code
def yX4_with : MethodName := ⟨RX4, "with", "(II)LPeacockLawns$Bird;"⟩
def dkwX4_with_1 : List UInt8 := [180, 0, 28, 42, 180, 0, 31, 183, 0, 3, 176]
abbrev dktX4_with_1 : List UInt8 := dkwX4_with_1 ++ []
def dkwX4_with_0 : List UInt8 := [187, 0, 4, 89, 42, 180, 0, 14, 42, 180, 0, 18, 27, 27, 154, 0, 7, 3, 167, 0, 4, 28, 42]
abbrev dktX4_with_0 : List UInt8 := dkwX4_with_0 ++ dktX4_with_1
theorem dksX4_with_0 : cX4_with.data.toList.drop 0 = dktX4_with_0 := by decide +kernel
theorem dksX4_with_1 : cX4_with.data.toList.drop 23 = dktX4_with_1 := dk_seg dksX4_with_0 23 rfl rfl
theorem dX4_with_0 : decode cX4_with 0 = .ok (.new 4, 3) := dk_187 0 4 (dk_at dksX4_with_0 0 rfl rfl)
theorem dX4_with_3 : decode cX4_with 3 = .ok (.dup, 1) := dk_89 (dk_at dksX4_with_0 3 rfl rfl)
theorem dX4_with_4 : decode cX4_with 4 = .ok (.aload_n 0, 1) := dk_42 (dk_at dksX4_with_0 4 rfl rfl)
theorem dX4_with_5 : decode cX4_with 5 = .ok (.getfield 14, 3) := dk_180 0 14 (dk_at dksX4_with_0 5 rfl rfl)
theorem dX4_with_8 : decode cX4_with 8 = .ok (.aload_n 0, 1) := dk_42 (dk_at dksX4_with_0 8 rfl rfl)
theorem dX4_with_9 : decode cX4_with 9 = .ok (.getfield 18, 3) := dk_180 0 18 (dk_at dksX4_with_0 9 rfl rfl)
theorem dX4_with_12 : decode cX4_with 12 = .ok (.iload_n 1, 1) := dk_27 (dk_at dksX4_with_0 12 rfl rfl)
theorem dX4_with_13 : decode cX4_with 13 = .ok (.iload_n 1, 1) := dk_27 (dk_at dksX4_with_0 13 rfl rfl)
theorem dX4_with_14 : decode cX4_with 14 = .ok (.ifCond .ne 7, 3) := dk_154 0 7 (dk_at dksX4_with_0 14 rfl rfl)
theorem dX4_with_17 : decode cX4_with 17 = .ok (.iconst 0, 1) := dk_3 (dk_at dksX4_with_0 17 rfl rfl)
theorem dX4_with_18 : decode cX4_with 18 = .ok (.goto 4, 3) := dk_167 0 4 (dk_at dksX4_with_0 18 rfl rfl)
theorem dX4_with_21 : decode cX4_with 21 = .ok (.iload_n 2, 1) := dk_28 (dk_at dksX4_with_0 21 rfl rfl)
theorem dX4_with_22 : decode cX4_with 22 = .ok (.aload_n 0, 1) := dk_42 (dk_at dksX4_with_0 22 rfl rfl)
theorem dX4_with_23 : decode cX4_with 23 = .ok (.getfield 28, 3) := dk_180 0 28 (dk_at dksX4_with_1 0 rfl rfl)
theorem dX4_with_26 : decode cX4_with 26 = .ok (.aload_n 0, 1) := dk_42 (dk_at dksX4_with_1 3 rfl rfl)
theorem dX4_with_27 : decode cX4_with 27 = .ok (.getfield 31, 3) := dk_180 0 31 (dk_at dksX4_with_1 4 rfl rfl)
theorem dX4_with_30 : decode cX4_with 30 = .ok (.invokespecial 3, 3) := dk_183 0 3 (dk_at dksX4_with_1 7 rfl rfl)
theorem dX4_with_33 : decode cX4_with 33 = .ok (.areturn, 1) := dk_176 (dk_at dksX4_with_1 10 rfl rfl)
abbrev cX4_isSitting : ByteArray := prog_3_method_5_code
def yX4_isSitting : MethodName := ⟨RX4, "isSitting", "()Z"⟩
def dkwX4_isSitting_0 : List UInt8 := [42, 180, 0, 14, 153, 0, 14, 42, 180, 0, 22, 158, 0, 7, 4, 167, 0, 4, 3, 172]
abbrev dktX4_isSitting_0 : List UInt8 := dkwX4_isSitting_0 ++ []
theorem dksX4_isSitting_0 : cX4_isSitting.data.toList.drop 0 = dktX4_isSitting_0 := by decide +kernel
theorem dX4_isSitting_0 : decode cX4_isSitting 0 = .ok (.aload_n 0, 1) := dk_42 (dk_at dksX4_isSitting_0 0 rfl rfl)
theorem dX4_isSitting_1 : decode cX4_isSitting 1 = .ok (.getfield 14, 3) := dk_180 0 14 (dk_at dksX4_isSitting_0 1 rfl rfl)
theorem dX4_isSitting_4 : decode cX4_isSitting 4 = .ok (.ifCond .eq 14, 3) := dk_153 0 14 (dk_at dksX4_isSitting_0 4 rfl rfl)
theorem dX4_isSitting_7 : decode cX4_isSitting 7 = .ok (.aload_n 0, 1) := dk_42 (dk_at dksX4_isSitting_0 7 rfl rfl)
theorem dX4_isSitting_8 : decode cX4_isSitting 8 = .ok (.getfield 22, 3) := dk_180 0 22 (dk_at dksX4_isSitting_0 8 rfl rfl)
theorem dX4_isSitting_11 : decode cX4_isSitting 11 = .ok (.ifCond .le 7, 3) := dk_158 0 7 (dk_at dksX4_isSitting_0 11 rfl rfl)
theorem dX4_isSitting_14 : decode cX4_isSitting 14 = .ok (.iconst 1, 1) := dk_4 (dk_at dksX4_isSitting_0 14 rfl rfl)
theorem dX4_isSitting_15 : decode cX4_isSitting 15 = .ok (.goto 4, 3) := dk_167 0 4 (dk_at dksX4_isSitting_0 15 rfl rfl)
theorem dX4_isSitting_18 : decode cX4_isSitting 18 = .ok (.iconst 0, 1) := dk_3 (dk_at dksX4_isSitting_0 18 rfl rfl)
theorem dX4_isSitting_19 : decode cX4_isSitting 19 = .ok (.ireturn, 1) := dk_172 (dk_at dksX4_isSitting_0 19 rfl rfl)
abbrev cX4_growing : ByteArray := prog_3_method_8_code
def yX4_growing : MethodName := ⟨RX4, "growing", "()LPeacockLawns$Bird;"⟩
def dkwX4_growing_2 : List UInt8 := [180, 0, 31, 183, 0, 3, 176]
abbrev dktX4_growing_2 : List UInt8 := dkwX4_growing_2 ++ []
def dkwX4_growing_1 : List UInt8 := [180, 0, 18, 17, 0, 150, 42, 180, 0, 22, 5, 96, 184, 0, 34, 42, 180, 0, 25, 42, 180, 0, 28, 42]
abbrev dktX4_growing_1 : List UInt8 := dkwX4_growing_1 ++ dktX4_growing_2
def dkwX4_growing_0 : List UInt8 := [42, 180, 0, 22, 17, 0, 150, 160, 0, 7, 42, 167, 0, 42, 187, 0, 4, 89, 42, 180, 0, 14, 42]
abbrev dktX4_growing_0 : List UInt8 := dkwX4_growing_0 ++ dktX4_growing_1
theorem dksX4_growing_0 : cX4_growing.data.toList.drop 0 = dktX4_growing_0 := by decide +kernel
theorem dksX4_growing_1 : cX4_growing.data.toList.drop 23 = dktX4_growing_1 := dk_seg dksX4_growing_0 23 rfl rfl
theorem dksX4_growing_2 : cX4_growing.data.toList.drop 47 = dktX4_growing_2 := dk_seg dksX4_growing_1 24 rfl rfl
theorem dX4_growing_0 : decode cX4_growing 0 = .ok (.aload_n 0, 1) := dk_42 (dk_at dksX4_growing_0 0 rfl rfl)
theorem dX4_growing_1 : decode cX4_growing 1 = .ok (.getfield 22, 3) := dk_180 0 22 (dk_at dksX4_growing_0 1 rfl rfl)
theorem dX4_growing_4 : decode cX4_growing 4 = .ok (.sipush 150, 3) := dk_17 0 150 (dk_at dksX4_growing_0 4 rfl rfl)
theorem dX4_growing_7 : decode cX4_growing 7 = .ok (.if_icmp .ne 7, 3) := dk_160 0 7 (dk_at dksX4_growing_0 7 rfl rfl)
theorem dX4_growing_10 : decode cX4_growing 10 = .ok (.aload_n 0, 1) := dk_42 (dk_at dksX4_growing_0 10 rfl rfl)
theorem dX4_growing_11 : decode cX4_growing 11 = .ok (.goto 42, 3) := dk_167 0 42 (dk_at dksX4_growing_0 11 rfl rfl)
theorem dX4_growing_14 : decode cX4_growing 14 = .ok (.new 4, 3) := dk_187 0 4 (dk_at dksX4_growing_0 14 rfl rfl)
theorem dX4_growing_17 : decode cX4_growing 17 = .ok (.dup, 1) := dk_89 (dk_at dksX4_growing_0 17 rfl rfl)
theorem dX4_growing_18 : decode cX4_growing 18 = .ok (.aload_n 0, 1) := dk_42 (dk_at dksX4_growing_0 18 rfl rfl)
theorem dX4_growing_19 : decode cX4_growing 19 = .ok (.getfield 14, 3) := dk_180 0 14 (dk_at dksX4_growing_0 19 rfl rfl)
theorem dX4_growing_22 : decode cX4_growing 22 = .ok (.aload_n 0, 1) := dk_42 (dk_at dksX4_growing_0 22 rfl rfl)
theorem dX4_growing_23 : decode cX4_growing 23 = .ok (.getfield 18, 3) := dk_180 0 18 (dk_at dksX4_growing_1 0 rfl rfl)
theorem dX4_growing_26 : decode cX4_growing 26 = .ok (.sipush 150, 3) := dk_17 0 150 (dk_at dksX4_growing_1 3 rfl rfl)
theorem dX4_growing_29 : decode cX4_growing 29 = .ok (.aload_n 0, 1) := dk_42 (dk_at dksX4_growing_1 6 rfl rfl)
theorem dX4_growing_30 : decode cX4_growing 30 = .ok (.getfield 22, 3) := dk_180 0 22 (dk_at dksX4_growing_1 7 rfl rfl)
theorem dX4_growing_33 : decode cX4_growing 33 = .ok (.iconst 2, 1) := dk_5 (dk_at dksX4_growing_1 10 rfl rfl)
theorem dX4_growing_34 : decode cX4_growing 34 = .ok (.iadd, 1) := dk_96 (dk_at dksX4_growing_1 11 rfl rfl)
theorem dX4_growing_35 : decode cX4_growing 35 = .ok (.invokestatic 34, 3) := dk_184 0 34 (dk_at dksX4_growing_1 12 rfl rfl)
theorem dX4_growing_38 : decode cX4_growing 38 = .ok (.aload_n 0, 1) := dk_42 (dk_at dksX4_growing_1 15 rfl rfl)
theorem dX4_growing_39 : decode cX4_growing 39 = .ok (.getfield 25, 3) := dk_180 0 25 (dk_at dksX4_growing_1 16 rfl rfl)
theorem dX4_growing_42 : decode cX4_growing 42 = .ok (.aload_n 0, 1) := dk_42 (dk_at dksX4_growing_1 19 rfl rfl)
theorem dX4_growing_43 : decode cX4_growing 43 = .ok (.getfield 28, 3) := dk_180 0 28 (dk_at dksX4_growing_1 20 rfl rfl)
theorem dX4_growing_46 : decode cX4_growing 46 = .ok (.aload_n 0, 1) := dk_42 (dk_at dksX4_growing_1 23 rfl rfl)
theorem dX4_growing_47 : decode cX4_growing 47 = .ok (.getfield 31, 3) := dk_180 0 31 (dk_at dksX4_growing_2 0 rfl rfl)
theorem dX4_growing_50 : decode cX4_growing 50 = .ok (.invokespecial 3, 3) := dk_183 0 3 (dk_at dksX4_growing_2 3 rfl rfl)
theorem dX4_growing_53 : decode cX4_growing 53 = .ok (.areturn, 1) := dk_176 (dk_at dksX4_growing_2 6 rfl rfl)
abbrev cX4_shedding : ByteArray := prog_3_method_7_code
def yX4_shedding : MethodName := ⟨RX4, "shedding", "(I)LPeacockLawns$Bird;"⟩
def dkwX4_shedding_1 : List UInt8 := [27, 100, 42, 180, 0, 25, 42, 180, 0, 28, 42, 180, 0, 31, 27, 96, 183, 0, 3, 176]
abbrev dktX4_shedding_1 : List UInt8 := dkwX4_shedding_1 ++ []
def dkwX4_shedding_0 : List UInt8 := [27, 154, 0, 7, 42, 167, 0, 38, 187, 0, 4, 89, 42, 180, 0, 14, 42, 180, 0, 18, 42, 180, 0, 22]
abbrev dktX4_shedding_0 : List UInt8 := dkwX4_shedding_0 ++ dktX4_shedding_1
theorem dksX4_shedding_0 : cX4_shedding.data.toList.drop 0 = dktX4_shedding_0 := by decide +kernel
theorem dksX4_shedding_1 : cX4_shedding.data.toList.drop 24 = dktX4_shedding_1 := dk_seg dksX4_shedding_0 24 rfl rfl
theorem dX4_shedding_0 : decode cX4_shedding 0 = .ok (.iload_n 1, 1) := dk_27 (dk_at dksX4_shedding_0 0 rfl rfl)
theorem dX4_shedding_1 : decode cX4_shedding 1 = .ok (.ifCond .ne 7, 3) := dk_154 0 7 (dk_at dksX4_shedding_0 1 rfl rfl)
theorem dX4_shedding_4 : decode cX4_shedding 4 = .ok (.aload_n 0, 1) := dk_42 (dk_at dksX4_shedding_0 4 rfl rfl)
theorem dX4_shedding_5 : decode cX4_shedding 5 = .ok (.goto 38, 3) := dk_167 0 38 (dk_at dksX4_shedding_0 5 rfl rfl)
theorem dX4_shedding_8 : decode cX4_shedding 8 = .ok (.new 4, 3) := dk_187 0 4 (dk_at dksX4_shedding_0 8 rfl rfl)
theorem dX4_shedding_11 : decode cX4_shedding 11 = .ok (.dup, 1) := dk_89 (dk_at dksX4_shedding_0 11 rfl rfl)
theorem dX4_shedding_12 : decode cX4_shedding 12 = .ok (.aload_n 0, 1) := dk_42 (dk_at dksX4_shedding_0 12 rfl rfl)
theorem dX4_shedding_13 : decode cX4_shedding 13 = .ok (.getfield 14, 3) := dk_180 0 14 (dk_at dksX4_shedding_0 13 rfl rfl)
theorem dX4_shedding_16 : decode cX4_shedding 16 = .ok (.aload_n 0, 1) := dk_42 (dk_at dksX4_shedding_0 16 rfl rfl)
theorem dX4_shedding_17 : decode cX4_shedding 17 = .ok (.getfield 18, 3) := dk_180 0 18 (dk_at dksX4_shedding_0 17 rfl rfl)
theorem dX4_shedding_20 : decode cX4_shedding 20 = .ok (.aload_n 0, 1) := dk_42 (dk_at dksX4_shedding_0 20 rfl rfl)
theorem dX4_shedding_21 : decode cX4_shedding 21 = .ok (.getfield 22, 3) := dk_180 0 22 (dk_at dksX4_shedding_0 21 rfl rfl)
theorem dX4_shedding_24 : decode cX4_shedding 24 = .ok (.iload_n 1, 1) := dk_27 (dk_at dksX4_shedding_1 0 rfl rfl)
theorem dX4_shedding_25 : decode cX4_shedding 25 = .ok (.isub, 1) := dk_100 (dk_at dksX4_shedding_1 1 rfl rfl)
theorem dX4_shedding_26 : decode cX4_shedding 26 = .ok (.aload_n 0, 1) := dk_42 (dk_at dksX4_shedding_1 2 rfl rfl)
theorem dX4_shedding_27 : decode cX4_shedding 27 = .ok (.getfield 25, 3) := dk_180 0 25 (dk_at dksX4_shedding_1 3 rfl rfl)
theorem dX4_shedding_30 : decode cX4_shedding 30 = .ok (.aload_n 0, 1) := dk_42 (dk_at dksX4_shedding_1 6 rfl rfl)
theorem dX4_shedding_31 : decode cX4_shedding 31 = .ok (.getfield 28, 3) := dk_180 0 28 (dk_at dksX4_shedding_1 7 rfl rfl)
theorem dX4_shedding_34 : decode cX4_shedding 34 = .ok (.aload_n 0, 1) := dk_42 (dk_at dksX4_shedding_1 10 rfl rfl)
theorem dX4_shedding_35 : decode cX4_shedding 35 = .ok (.getfield 31, 3) := dk_180 0 31 (dk_at dksX4_shedding_1 11 rfl rfl)
theorem dX4_shedding_38 : decode cX4_shedding 38 = .ok (.iload_n 1, 1) := dk_27 (dk_at dksX4_shedding_1 14 rfl rfl)
theorem dX4_shedding_39 : decode cX4_shedding 39 = .ok (.iadd, 1) := dk_96 (dk_at dksX4_shedding_1 15 rfl rfl)
theorem dX4_shedding_40 : decode cX4_shedding 40 = .ok (.invokespecial 3, 3) := dk_183 0 3 (dk_at dksX4_shedding_1 16 rfl rfl)
theorem dX4_shedding_43 : decode cX4_shedding 43 = .ok (.areturn, 1) := dk_176 (dk_at dksX4_shedding_1 19 rfl rfl)
abbrev cX4_at : ByteArray := prog_3_method_6_code
def yX4_at : MethodName := ⟨RX4, "at", "(I)LPeacockLawns$Bird;"⟩
def dkwX4_at_1 : List UInt8 := [180, 0, 22, 42, 180, 0, 25, 42, 180, 0, 28, 42, 180, 0, 31, 183, 0, 3, 176]
abbrev dktX4_at_1 : List UInt8 := dkwX4_at_1 ++ []
def dkwX4_at_0 : List UInt8 := [27, 42, 180, 0, 18, 160, 0, 7, 42, 167, 0, 31, 187, 0, 4, 89, 42, 180, 0, 14, 27, 42]
abbrev dktX4_at_0 : List UInt8 := dkwX4_at_0 ++ dktX4_at_1
theorem dksX4_at_0 : cX4_at.data.toList.drop 0 = dktX4_at_0 := by decide +kernel
theorem dksX4_at_1 : cX4_at.data.toList.drop 22 = dktX4_at_1 := dk_seg dksX4_at_0 22 rfl rfl
theorem dX4_at_0 : decode cX4_at 0 = .ok (.iload_n 1, 1) := dk_27 (dk_at dksX4_at_0 0 rfl rfl)
theorem dX4_at_1 : decode cX4_at 1 = .ok (.aload_n 0, 1) := dk_42 (dk_at dksX4_at_0 1 rfl rfl)
theorem dX4_at_2 : decode cX4_at 2 = .ok (.getfield 18, 3) := dk_180 0 18 (dk_at dksX4_at_0 2 rfl rfl)
theorem dX4_at_5 : decode cX4_at 5 = .ok (.if_icmp .ne 7, 3) := dk_160 0 7 (dk_at dksX4_at_0 5 rfl rfl)
theorem dX4_at_8 : decode cX4_at 8 = .ok (.aload_n 0, 1) := dk_42 (dk_at dksX4_at_0 8 rfl rfl)
theorem dX4_at_9 : decode cX4_at 9 = .ok (.goto 31, 3) := dk_167 0 31 (dk_at dksX4_at_0 9 rfl rfl)
theorem dX4_at_12 : decode cX4_at 12 = .ok (.new 4, 3) := dk_187 0 4 (dk_at dksX4_at_0 12 rfl rfl)
theorem dX4_at_15 : decode cX4_at 15 = .ok (.dup, 1) := dk_89 (dk_at dksX4_at_0 15 rfl rfl)
theorem dX4_at_16 : decode cX4_at 16 = .ok (.aload_n 0, 1) := dk_42 (dk_at dksX4_at_0 16 rfl rfl)
theorem dX4_at_17 : decode cX4_at 17 = .ok (.getfield 14, 3) := dk_180 0 14 (dk_at dksX4_at_0 17 rfl rfl)
theorem dX4_at_20 : decode cX4_at 20 = .ok (.iload_n 1, 1) := dk_27 (dk_at dksX4_at_0 20 rfl rfl)
theorem dX4_at_21 : decode cX4_at 21 = .ok (.aload_n 0, 1) := dk_42 (dk_at dksX4_at_0 21 rfl rfl)
theorem dX4_at_22 : decode cX4_at 22 = .ok (.getfield 22, 3) := dk_180 0 22 (dk_at dksX4_at_1 0 rfl rfl)
theorem dX4_at_25 : decode cX4_at 25 = .ok (.aload_n 0, 1) := dk_42 (dk_at dksX4_at_1 3 rfl rfl)
theorem dX4_at_26 : decode cX4_at 26 = .ok (.getfield 25, 3) := dk_180 0 25 (dk_at dksX4_at_1 4 rfl rfl)
theorem dX4_at_29 : decode cX4_at 29 = .ok (.aload_n 0, 1) := dk_42 (dk_at dksX4_at_1 7 rfl rfl)
theorem dX4_at_30 : decode cX4_at 30 = .ok (.getfield 28, 3) := dk_180 0 28 (dk_at dksX4_at_1 8 rfl rfl)
theorem dX4_at_33 : decode cX4_at 33 = .ok (.aload_n 0, 1) := dk_42 (dk_at dksX4_at_1 11 rfl rfl)
theorem dX4_at_34 : decode cX4_at 34 = .ok (.getfield 31, 3) := dk_180 0 31 (dk_at dksX4_at_1 12 rfl rfl)
theorem dX4_at_37 : decode cX4_at 37 = .ok (.invokespecial 3, 3) := dk_183 0 3 (dk_at dksX4_at_1 15 rfl rfl)
theorem dX4_at_40 : decode cX4_at 40 = .ok (.areturn, 1) := dk_176 (dk_at dksX4_at_1 18 rfl rfl)
abbrev cX4_chick : ByteArray := prog_3_method_3_code
def yX4_chick : MethodName := ⟨RX4, "chick", "(III)LPeacockLawns$Bird;"⟩
def dkwX4_chick_1 : List UInt8 := [3, 167, 0, 4, 4, 28, 3, 183, 0, 3, 176]
abbrev dktX4_chick_1 : List UInt8 := dkwX4_chick_1 ++ []
def dkwX4_chick_0 : List UInt8 := [26, 5, 112, 4, 160, 0, 7, 4, 167, 0, 4, 3, 62, 187, 0, 4, 89, 29, 27, 3, 29, 153, 0, 7]
abbrev dktX4_chick_0 : List UInt8 := dkwX4_chick_0 ++ dktX4_chick_1
theorem dksX4_chick_0 : cX4_chick.data.toList.drop 0 = dktX4_chick_0 := by decide +kernel
theorem dksX4_chick_1 : cX4_chick.data.toList.drop 24 = dktX4_chick_1 := dk_seg dksX4_chick_0 24 rfl rfl
theorem dX4_chick_0 : decode cX4_chick 0 = .ok (.iload_n 0, 1) := dk_26 (dk_at dksX4_chick_0 0 rfl rfl)
theorem dX4_chick_1 : decode cX4_chick 1 = .ok (.iconst 2, 1) := dk_5 (dk_at dksX4_chick_0 1 rfl rfl)
theorem dX4_chick_2 : decode cX4_chick 2 = .ok (.irem, 1) := dk_112 (dk_at dksX4_chick_0 2 rfl rfl)
theorem dX4_chick_3 : decode cX4_chick 3 = .ok (.iconst 1, 1) := dk_4 (dk_at dksX4_chick_0 3 rfl rfl)
theorem dX4_chick_4 : decode cX4_chick 4 = .ok (.if_icmp .ne 7, 3) := dk_160 0 7 (dk_at dksX4_chick_0 4 rfl rfl)
theorem dX4_chick_7 : decode cX4_chick 7 = .ok (.iconst 1, 1) := dk_4 (dk_at dksX4_chick_0 7 rfl rfl)
theorem dX4_chick_8 : decode cX4_chick 8 = .ok (.goto 4, 3) := dk_167 0 4 (dk_at dksX4_chick_0 8 rfl rfl)
theorem dX4_chick_11 : decode cX4_chick 11 = .ok (.iconst 0, 1) := dk_3 (dk_at dksX4_chick_0 11 rfl rfl)
theorem dX4_chick_12 : decode cX4_chick 12 = .ok (.istore_n 3, 1) := dk_62 (dk_at dksX4_chick_0 12 rfl rfl)
theorem dX4_chick_13 : decode cX4_chick 13 = .ok (.new 4, 3) := dk_187 0 4 (dk_at dksX4_chick_0 13 rfl rfl)
theorem dX4_chick_16 : decode cX4_chick 16 = .ok (.dup, 1) := dk_89 (dk_at dksX4_chick_0 16 rfl rfl)
theorem dX4_chick_17 : decode cX4_chick 17 = .ok (.iload_n 3, 1) := dk_29 (dk_at dksX4_chick_0 17 rfl rfl)
theorem dX4_chick_18 : decode cX4_chick 18 = .ok (.iload_n 1, 1) := dk_27 (dk_at dksX4_chick_0 18 rfl rfl)
theorem dX4_chick_19 : decode cX4_chick 19 = .ok (.iconst 0, 1) := dk_3 (dk_at dksX4_chick_0 19 rfl rfl)
theorem dX4_chick_20 : decode cX4_chick 20 = .ok (.iload_n 3, 1) := dk_29 (dk_at dksX4_chick_0 20 rfl rfl)
theorem dX4_chick_21 : decode cX4_chick 21 = .ok (.ifCond .eq 7, 3) := dk_153 0 7 (dk_at dksX4_chick_0 21 rfl rfl)
theorem dX4_chick_24 : decode cX4_chick 24 = .ok (.iconst 0, 1) := dk_3 (dk_at dksX4_chick_1 0 rfl rfl)
theorem dX4_chick_25 : decode cX4_chick 25 = .ok (.goto 4, 3) := dk_167 0 4 (dk_at dksX4_chick_1 1 rfl rfl)
theorem dX4_chick_28 : decode cX4_chick 28 = .ok (.iconst 1, 1) := dk_4 (dk_at dksX4_chick_1 4 rfl rfl)
theorem dX4_chick_29 : decode cX4_chick 29 = .ok (.iload_n 2, 1) := dk_28 (dk_at dksX4_chick_1 5 rfl rfl)
theorem dX4_chick_30 : decode cX4_chick 30 = .ok (.iconst 0, 1) := dk_3 (dk_at dksX4_chick_1 6 rfl rfl)
theorem dX4_chick_31 : decode cX4_chick 31 = .ok (.invokespecial 3, 3) := dk_183 0 3 (dk_at dksX4_chick_1 7 rfl rfl)
theorem dX4_chick_34 : decode cX4_chick 34 = .ok (.areturn, 1) := dk_176 (dk_at dksX4_chick_1 10 rfl rfl)
theorem q98 : (Jvm.Cond.initialized "PeacockLawns$Bird") ∈ lw_all := lw_g (lw_at lw_m1 19 rfl) rfl
theorem q318 : (Jvm.Cond.instanceMethod ({ cls := "PeacockLawns$Bird", name := "isCock", desc := "()Z" } : Jvm.MethodName)) ∈ lw_all := lw_g (lw_at lw_m1 239 rfl) rfl
theorem q319 : (Jvm.Cond.selects "PeacockLawns$Bird" ({ cls := "PeacockLawns$Bird", name := "isCock", desc := "()Z" } : Jvm.MethodName) ({ cls := "PeacockLawns$Bird", name := "isCock", desc := "()Z" } : Jvm.MethodName)) ∈ lw_all := lw_g (lw_at lw_m2 0 rfl) rfl
theorem q320 : (Jvm.Cond.code ({ cls := "PeacockLawns$Bird", name := "isCock", desc := "()Z" } : Jvm.MethodName) prog_3_method_4_code (1 : Nat) (Option.some Jvm.ClassFile.FieldType.boolean)) ∈ lw_all := lw_g (lw_at lw_m2 1 rfl) rfl
theorem q754 : (Jvm.Cond.selects "PeacockLawns$Bird" ({ cls := "java/lang/Object", name := "getClass", desc := "()Ljava/lang/Class;" } : Jvm.MethodName) ({ cls := "java/lang/Object", name := "getClass", desc := "()Ljava/lang/Class;" } : Jvm.MethodName)) ∈ lw_all := lw_g (lw_at lw_m3 195 rfl) rfl
theorem q865 : (Jvm.Cond.instantiable "PeacockLawns$Bird" (6 : Nat)) ∈ lw_all := lw_g (lw_at lw_m4 66 rfl) rfl
theorem q867 : (Jvm.Cond.instanceMethod ({ cls := "PeacockLawns$Bird", name := "<init>", desc := "(ZIII)V" } : Jvm.MethodName)) ∈ lw_all := lw_g (lw_at lw_m4 68 rfl) rfl
theorem q868 : (Jvm.Cond.code ({ cls := "PeacockLawns$Bird", name := "<init>", desc := "(ZIII)V" } : Jvm.MethodName) prog_3_method_1_code (5 : Nat) (Option.none : Option Jvm.ClassFile.FieldType)) ∈ lw_all := lw_g (lw_at lw_m4 69 rfl) rfl
theorem q869 : (Jvm.Cond.methodLink "PeacockLawns$Bird" (3 : Nat) ({ cls := "PeacockLawns$Bird", name := "<init>", desc := "(ZIIIII)V" } : Jvm.MethodName)) ∈ lw_all := lw_g (lw_at lw_m4 70 rfl) rfl
theorem q870 : (Jvm.Cond.instanceMethod ({ cls := "PeacockLawns$Bird", name := "<init>", desc := "(ZIIIII)V" } : Jvm.MethodName)) ∈ lw_all := lw_g (lw_at lw_m4 71 rfl) rfl
theorem q871 : (Jvm.Cond.code ({ cls := "PeacockLawns$Bird", name := "<init>", desc := "(ZIIIII)V" } : Jvm.MethodName) prog_3_method_2_code (7 : Nat) (Option.none : Option Jvm.ClassFile.FieldType)) ∈ lw_all := lw_g (lw_at lw_m4 72 rfl) rfl
theorem q872 : (Jvm.Cond.methodLink "PeacockLawns$Bird" (9 : Nat) ({ cls := "java/lang/Object", name := "<init>", desc := "()V" } : Jvm.MethodName)) ∈ lw_all := lw_g (lw_at lw_m4 73 rfl) rfl
theorem q873 : (Jvm.Cond.fieldLink "PeacockLawns$Bird" (14 : Nat) "PeacockLawns$Bird" "isHen" "Z") ∈ lw_all := lw_g (lw_at lw_m4 74 rfl) rfl
theorem q876 : (Jvm.Cond.fieldLink "PeacockLawns$Bird" (18 : Nat) "PeacockLawns$Bird" "lawn" "I") ∈ lw_all := lw_g (lw_at lw_m4 77 rfl) rfl
theorem q879 : (Jvm.Cond.fieldLink "PeacockLawns$Bird" (22 : Nat) "PeacockLawns$Bird" "much" "I") ∈ lw_all := lw_g (lw_at lw_m4 80 rfl) rfl
theorem q882 : (Jvm.Cond.fieldLink "PeacockLawns$Bird" (25 : Nat) "PeacockLawns$Bird" "voice" "I") ∈ lw_all := lw_g (lw_at lw_m4 83 rfl) rfl
theorem q886 : (Jvm.Cond.fieldLink "PeacockLawns$Bird" (28 : Nat) "PeacockLawns$Bird" "parent" "I") ∈ lw_all := lw_g (lw_at lw_m4 87 rfl) rfl
theorem q888 : (Jvm.Cond.fieldLink "PeacockLawns$Bird" (31 : Nat) "PeacockLawns$Bird" "shed" "I") ∈ lw_all := lw_g (lw_at lw_m4 89 rfl) rfl
theorem q890 : (Jvm.Cond.laysFinal "PeacockLawns$Bird" "PeacockLawns$Bird" "isHen" "Z") ∈ lw_all := lw_g (lw_at lw_m4 91 rfl) rfl
theorem q891 : (Jvm.Cond.soleField "PeacockLawns$Bird" "isHen") ∈ lw_all := lw_g (lw_at lw_m4 92 rfl) rfl
theorem q892 : (Jvm.Cond.laysFinal "PeacockLawns$Bird" "PeacockLawns$Bird" "lawn" "I") ∈ lw_all := lw_g (lw_at lw_m4 93 rfl) rfl
theorem q893 : (Jvm.Cond.soleField "PeacockLawns$Bird" "lawn") ∈ lw_all := lw_g (lw_at lw_m4 94 rfl) rfl
theorem q894 : (Jvm.Cond.laysFinal "PeacockLawns$Bird" "PeacockLawns$Bird" "much" "I") ∈ lw_all := lw_g (lw_at lw_m4 95 rfl) rfl
theorem q895 : (Jvm.Cond.soleField "PeacockLawns$Bird" "much") ∈ lw_all := lw_g (lw_at lw_m4 96 rfl) rfl
theorem q896 : (Jvm.Cond.laysFinal "PeacockLawns$Bird" "PeacockLawns$Bird" "voice" "I") ∈ lw_all := lw_g (lw_at lw_m4 97 rfl) rfl
theorem q897 : (Jvm.Cond.soleField "PeacockLawns$Bird" "voice") ∈ lw_all := lw_g (lw_at lw_m4 98 rfl) rfl
theorem q898 : (Jvm.Cond.laysFinal "PeacockLawns$Bird" "PeacockLawns$Bird" "parent" "I") ∈ lw_all := lw_g (lw_at lw_m4 99 rfl) rfl
theorem q899 : (Jvm.Cond.soleField "PeacockLawns$Bird" "parent") ∈ lw_all := lw_g (lw_at lw_m4 100 rfl) rfl
theorem q900 : (Jvm.Cond.laysFinal "PeacockLawns$Bird" "PeacockLawns$Bird" "shed" "I") ∈ lw_all := lw_g (lw_at lw_m4 101 rfl) rfl
theorem q901 : (Jvm.Cond.soleField "PeacockLawns$Bird" "shed") ∈ lw_all := lw_g (lw_at lw_m4 102 rfl) rfl
theorem q902 : (Jvm.Cond.superclass "PeacockLawns$Bird" "java/lang/Object") ∈ lw_all := lw_g (lw_at lw_m4 103 rfl) rfl
theorem q1101 : (Jvm.Cond.instanceMethod ({ cls := "PeacockLawns$Bird", name := "with", desc := "(II)LPeacockLawns$Bird;" } : Jvm.MethodName)) ∈ lw_all := lw_g (lw_at lw_m5 62 rfl) rfl
theorem q1102 : (Jvm.Cond.selects "PeacockLawns$Bird" ({ cls := "PeacockLawns$Bird", name := "with", desc := "(II)LPeacockLawns$Bird;" } : Jvm.MethodName) ({ cls := "PeacockLawns$Bird", name := "with", desc := "(II)LPeacockLawns$Bird;" } : Jvm.MethodName)) ∈ lw_all := lw_g (lw_at lw_m5 63 rfl) rfl
theorem q1103 : (Jvm.Cond.code ({ cls := "PeacockLawns$Bird", name := "with", desc := "(II)LPeacockLawns$Bird;" } : Jvm.MethodName) prog_3_method_9_code (3 : Nat) (Option.some (Jvm.ClassFile.FieldType.object "PeacockLawns$Bird"))) ∈ lw_all := lw_g (lw_at lw_m5 64 rfl) rfl
theorem q1104 : (Jvm.Cond.classLink "PeacockLawns$Bird" (4 : Nat) "PeacockLawns$Bird") ∈ lw_all := lw_g (lw_at lw_m5 65 rfl) rfl
theorem q1176 : (Jvm.Cond.instanceMethod ({ cls := "PeacockLawns$Bird", name := "isSitting", desc := "()Z" } : Jvm.MethodName)) ∈ lw_all := lw_g (lw_at lw_m5 137 rfl) rfl
theorem q1177 : (Jvm.Cond.selects "PeacockLawns$Bird" ({ cls := "PeacockLawns$Bird", name := "isSitting", desc := "()Z" } : Jvm.MethodName) ({ cls := "PeacockLawns$Bird", name := "isSitting", desc := "()Z" } : Jvm.MethodName)) ∈ lw_all := lw_g (lw_at lw_m5 138 rfl) rfl
theorem q1178 : (Jvm.Cond.code ({ cls := "PeacockLawns$Bird", name := "isSitting", desc := "()Z" } : Jvm.MethodName) prog_3_method_5_code (1 : Nat) (Option.some Jvm.ClassFile.FieldType.boolean)) ∈ lw_all := lw_g (lw_at lw_m5 139 rfl) rfl
theorem q1505 : (Jvm.Cond.instanceMethod ({ cls := "PeacockLawns$Bird", name := "growing", desc := "()LPeacockLawns$Bird;" } : Jvm.MethodName)) ∈ lw_all := lw_g (lw_at lw_m6 226 rfl) rfl
theorem q1506 : (Jvm.Cond.selects "PeacockLawns$Bird" ({ cls := "PeacockLawns$Bird", name := "growing", desc := "()LPeacockLawns$Bird;" } : Jvm.MethodName) ({ cls := "PeacockLawns$Bird", name := "growing", desc := "()LPeacockLawns$Bird;" } : Jvm.MethodName)) ∈ lw_all := lw_g (lw_at lw_m6 227 rfl) rfl
theorem q1507 : (Jvm.Cond.code ({ cls := "PeacockLawns$Bird", name := "growing", desc := "()LPeacockLawns$Bird;" } : Jvm.MethodName) prog_3_method_8_code (1 : Nat) (Option.some (Jvm.ClassFile.FieldType.object "PeacockLawns$Bird"))) ∈ lw_all := lw_g (lw_at lw_m6 228 rfl) rfl
theorem q1508 : (Jvm.Cond.methodLink "PeacockLawns$Bird" (34 : Nat) ({ cls := "java/lang/Math", name := "min", desc := "(II)I" } : Jvm.MethodName)) ∈ lw_all := lw_g (lw_at lw_m6 229 rfl) rfl
theorem q1510 : (Jvm.Cond.instanceMethod ({ cls := "PeacockLawns$Bird", name := "shedding", desc := "(I)LPeacockLawns$Bird;" } : Jvm.MethodName)) ∈ lw_all := lw_g (lw_at lw_m6 231 rfl) rfl
theorem q1511 : (Jvm.Cond.selects "PeacockLawns$Bird" ({ cls := "PeacockLawns$Bird", name := "shedding", desc := "(I)LPeacockLawns$Bird;" } : Jvm.MethodName) ({ cls := "PeacockLawns$Bird", name := "shedding", desc := "(I)LPeacockLawns$Bird;" } : Jvm.MethodName)) ∈ lw_all := lw_g (lw_at lw_m6 232 rfl) rfl
theorem q1512 : (Jvm.Cond.code ({ cls := "PeacockLawns$Bird", name := "shedding", desc := "(I)LPeacockLawns$Bird;" } : Jvm.MethodName) prog_3_method_7_code (2 : Nat) (Option.some (Jvm.ClassFile.FieldType.object "PeacockLawns$Bird"))) ∈ lw_all := lw_g (lw_at lw_m6 233 rfl) rfl
theorem q1515 : (Jvm.Cond.instanceMethod ({ cls := "PeacockLawns$Bird", name := "at", desc := "(I)LPeacockLawns$Bird;" } : Jvm.MethodName)) ∈ lw_all := lw_g (lw_at lw_m6 236 rfl) rfl
theorem q1516 : (Jvm.Cond.selects "PeacockLawns$Bird" ({ cls := "PeacockLawns$Bird", name := "at", desc := "(I)LPeacockLawns$Bird;" } : Jvm.MethodName) ({ cls := "PeacockLawns$Bird", name := "at", desc := "(I)LPeacockLawns$Bird;" } : Jvm.MethodName)) ∈ lw_all := lw_g (lw_at lw_m6 237 rfl) rfl
theorem q1517 : (Jvm.Cond.code ({ cls := "PeacockLawns$Bird", name := "at", desc := "(I)LPeacockLawns$Bird;" } : Jvm.MethodName) prog_3_method_6_code (2 : Nat) (Option.some (Jvm.ClassFile.FieldType.object "PeacockLawns$Bird"))) ∈ lw_all := lw_g (lw_at lw_m6 238 rfl) rfl
theorem q1535 : (Jvm.Cond.static ({ cls := "PeacockLawns$Bird", name := "chick", desc := "(III)LPeacockLawns$Bird;" } : Jvm.MethodName)) ∈ lw_all := lw_g (lw_at lw_m7 16 rfl) rfl
theorem q1536 : (Jvm.Cond.code ({ cls := "PeacockLawns$Bird", name := "chick", desc := "(III)LPeacockLawns$Bird;" } : Jvm.MethodName) prog_3_method_3_code (4 : Nat) (Option.some (Jvm.ClassFile.FieldType.object "PeacockLawns$Bird"))) ∈ lw_all := lw_g (lw_at lw_m7 17 rfl) rfl
theorem q2607 : (Jvm.Cond.castable "PeacockLawns$Bird" "java/lang/Object") ∈ lw_tbl := lw_at lw_m11 128 rfl
theorem in_X4 : ∀ w ∈ wsX40, w ∈ lw_all := lw_in wsX40 [890, 892, 894, 896, 898, 900] (by decide +kernel) (by decide +kernel)
/-! PeacockLawns$Refusal -/
set_option maxRecDepth 100000
def RX5 : String := "PeacockLawns$Refusal"
def TX5 : u_T := fun k => match k with
  | 0 => ("java/lang/Throwable", "cause", "Ljava/lang/Throwable;", false)
  | 1 => ("java/lang/Throwable", "stackTrace", "[Ljava/lang/StackTraceElement;", false)
  | 2 => ("java/lang/Throwable", "suppressedExceptions", "Ljava/util/List;", false)
  | 3 => ("java/lang/Throwable", "detailMessage", "Ljava/lang/String;", false)
  | 4 => ("java/lang/Throwable", "backtrace", "Ljava/lang/Object;", false)
  | 5 => ("java/lang/Throwable", "depth", "I", false)
  | 6 => ("PeacockLawns$Refusal", "reason", "I", true)
  | _ => ("PeacockLawns$Refusal", "detail", "I", true)
def tyX5 : Nat → FieldType := fun k => match k with
  | 0 => .object "java/lang/Throwable"
  | 1 => .array (.object "java/lang/StackTraceElement")
  | 2 => .object "java/util/List"
  | 3 => .object "java/lang/String"
  | 4 => .object "java/lang/Object"
  | 5 => .int
  | 6 => .int
  | _ => .int
abbrev wsX50 : List Cond := u_ws RX5 TX5 8
theorem nmX5 : ∀ a, a < 8 → ∀ b, b < 8 → a ≠ b → (TX5 a).2.1 ≠ (TX5 b).2.1 := by decide +kernel
theorem tyX5_ok : ∀ k, k < 8 → parseFieldDescriptor (TX5 k).2.2.1 = some (tyX5 k) := by decide +kernel
abbrev cX5_init : ByteArray := prog_12_method_1_code
def yX5_init : MethodName := ⟨RX5, "<init>", "(II)V"⟩
def dkwX5_init_0 : List UInt8 := [42, 27, 28, 1, 183, 0, 1, 177]
abbrev dktX5_init_0 : List UInt8 := dkwX5_init_0 ++ []
theorem dksX5_init_0 : cX5_init.data.toList.drop 0 = dktX5_init_0 := by decide +kernel
theorem dX5_init_0 : decode cX5_init 0 = .ok (.aload_n 0, 1) := dk_42 (dk_at dksX5_init_0 0 rfl rfl)
theorem dX5_init_1 : decode cX5_init 1 = .ok (.iload_n 1, 1) := dk_27 (dk_at dksX5_init_0 1 rfl rfl)
theorem dX5_init_2 : decode cX5_init 2 = .ok (.iload_n 2, 1) := dk_28 (dk_at dksX5_init_0 2 rfl rfl)
theorem dX5_init_3 : decode cX5_init 3 = .ok (.aconst_null, 1) := dk_1 (dk_at dksX5_init_0 3 rfl rfl)
theorem dX5_init_4 : decode cX5_init 4 = .ok (.invokespecial 1, 3) := dk_183 0 1 (dk_at dksX5_init_0 4 rfl rfl)
theorem dX5_init_7 : decode cX5_init 7 = .ok (.return_, 1) := dk_177 (dk_at dksX5_init_0 7 rfl rfl)
abbrev cX5_init_2 : ByteArray := prog_12_method_2_code
def yX5_init_2 : MethodName := ⟨RX5, "<init>", "(IILjava/lang/Exception;)V"⟩
def dkwX5_init_2_0 : List UInt8 := [42, 1, 45, 3, 3, 183, 0, 7, 42, 27, 181, 0, 12, 42, 28, 181, 0, 16, 177]
abbrev dktX5_init_2_0 : List UInt8 := dkwX5_init_2_0 ++ []
theorem dksX5_init_2_0 : cX5_init_2.data.toList.drop 0 = dktX5_init_2_0 := by decide +kernel
theorem dX5_init_2_0 : decode cX5_init_2 0 = .ok (.aload_n 0, 1) := dk_42 (dk_at dksX5_init_2_0 0 rfl rfl)
theorem dX5_init_2_1 : decode cX5_init_2 1 = .ok (.aconst_null, 1) := dk_1 (dk_at dksX5_init_2_0 1 rfl rfl)
theorem dX5_init_2_2 : decode cX5_init_2 2 = .ok (.aload_n 3, 1) := dk_45 (dk_at dksX5_init_2_0 2 rfl rfl)
theorem dX5_init_2_3 : decode cX5_init_2 3 = .ok (.iconst 0, 1) := dk_3 (dk_at dksX5_init_2_0 3 rfl rfl)
theorem dX5_init_2_4 : decode cX5_init_2 4 = .ok (.iconst 0, 1) := dk_3 (dk_at dksX5_init_2_0 4 rfl rfl)
theorem dX5_init_2_5 : decode cX5_init_2 5 = .ok (.invokespecial 7, 3) := dk_183 0 7 (dk_at dksX5_init_2_0 5 rfl rfl)
theorem dX5_init_2_8 : decode cX5_init_2 8 = .ok (.aload_n 0, 1) := dk_42 (dk_at dksX5_init_2_0 8 rfl rfl)
theorem dX5_init_2_9 : decode cX5_init_2 9 = .ok (.iload_n 1, 1) := dk_27 (dk_at dksX5_init_2_0 9 rfl rfl)
theorem dX5_init_2_10 : decode cX5_init_2 10 = .ok (.putfield 12, 3) := dk_181 0 12 (dk_at dksX5_init_2_0 10 rfl rfl)
theorem dX5_init_2_13 : decode cX5_init_2 13 = .ok (.aload_n 0, 1) := dk_42 (dk_at dksX5_init_2_0 13 rfl rfl)
theorem dX5_init_2_14 : decode cX5_init_2 14 = .ok (.iload_n 2, 1) := dk_28 (dk_at dksX5_init_2_0 14 rfl rfl)
theorem dX5_init_2_15 : decode cX5_init_2 15 = .ok (.putfield 16, 3) := dk_181 0 16 (dk_at dksX5_init_2_0 15 rfl rfl)
theorem dX5_init_2_18 : decode cX5_init_2 18 = .ok (.return_, 1) := dk_177 (dk_at dksX5_init_2_0 18 rfl rfl)
theorem q99 : (Jvm.Cond.initialized "PeacockLawns$Refusal") ∈ lw_all := lw_g (lw_at lw_m1 20 rfl) rfl
theorem q411 : (Jvm.Cond.selects "PeacockLawns$Refusal" ({ cls := "java/lang/Throwable", name := "fillInStackTrace", desc := "()Ljava/lang/Throwable;" } : Jvm.MethodName) ({ cls := "java/lang/Throwable", name := "fillInStackTrace", desc := "()Ljava/lang/Throwable;" } : Jvm.MethodName)) ∈ lw_all := lw_g (lw_at lw_m2 92 rfl) rfl
theorem q760 : (Jvm.Cond.selects "PeacockLawns$Refusal" ({ cls := "java/lang/Object", name := "getClass", desc := "()Ljava/lang/Class;" } : Jvm.MethodName) ({ cls := "java/lang/Object", name := "getClass", desc := "()Ljava/lang/Class;" } : Jvm.MethodName)) ∈ lw_all := lw_g (lw_at lw_m3 201 rfl) rfl
theorem q913 : (Jvm.Cond.instantiable "PeacockLawns$Refusal" (8 : Nat)) ∈ lw_all := lw_g (lw_at lw_m4 114 rfl) rfl
theorem q914 : (Jvm.Cond.castable "PeacockLawns$Refusal" "PeacockLawns$Refusal") ∈ lw_tbl := lw_at lw_m4 115 rfl
theorem q915 : (Jvm.Cond.selects "PeacockLawns$Refusal" ({ cls := "java/lang/Throwable", name := "fillInStackTrace", desc := "(I)Ljava/lang/Throwable;" } : Jvm.MethodName) ({ cls := "java/lang/Throwable", name := "fillInStackTrace", desc := "(I)Ljava/lang/Throwable;" } : Jvm.MethodName)) ∈ lw_all := lw_g (lw_at lw_m4 116 rfl) rfl
theorem q916 : (Jvm.Cond.lays "PeacockLawns$Refusal" "java/lang/Throwable" "cause" "Ljava/lang/Throwable;") ∈ lw_all := lw_g (lw_at lw_m4 117 rfl) rfl
theorem q917 : (Jvm.Cond.lays "PeacockLawns$Refusal" "java/lang/Throwable" "stackTrace" "[Ljava/lang/StackTraceElement;") ∈ lw_all := lw_g (lw_at lw_m4 118 rfl) rfl
theorem q918 : (Jvm.Cond.lays "PeacockLawns$Refusal" "java/lang/Throwable" "suppressedExceptions" "Ljava/util/List;") ∈ lw_all := lw_g (lw_at lw_m4 119 rfl) rfl
theorem q919 : (Jvm.Cond.lays "PeacockLawns$Refusal" "java/lang/Throwable" "detailMessage" "Ljava/lang/String;") ∈ lw_all := lw_g (lw_at lw_m4 120 rfl) rfl
theorem q920 : (Jvm.Cond.lays "PeacockLawns$Refusal" "java/lang/Throwable" "backtrace" "Ljava/lang/Object;") ∈ lw_all := lw_g (lw_at lw_m4 121 rfl) rfl
theorem q922 : (Jvm.Cond.instanceMethod ({ cls := "PeacockLawns$Refusal", name := "<init>", desc := "(II)V" } : Jvm.MethodName)) ∈ lw_all := lw_g (lw_at lw_m4 123 rfl) rfl
theorem q923 : (Jvm.Cond.code ({ cls := "PeacockLawns$Refusal", name := "<init>", desc := "(II)V" } : Jvm.MethodName) prog_12_method_1_code (3 : Nat) (Option.none : Option Jvm.ClassFile.FieldType)) ∈ lw_all := lw_g (lw_at lw_m4 124 rfl) rfl
theorem q924 : (Jvm.Cond.methodLink "PeacockLawns$Refusal" (1 : Nat) ({ cls := "PeacockLawns$Refusal", name := "<init>", desc := "(IILjava/lang/Exception;)V" } : Jvm.MethodName)) ∈ lw_all := lw_g (lw_at lw_m4 125 rfl) rfl
theorem q925 : (Jvm.Cond.instanceMethod ({ cls := "PeacockLawns$Refusal", name := "<init>", desc := "(IILjava/lang/Exception;)V" } : Jvm.MethodName)) ∈ lw_all := lw_g (lw_at lw_m4 126 rfl) rfl
theorem q926 : (Jvm.Cond.code ({ cls := "PeacockLawns$Refusal", name := "<init>", desc := "(IILjava/lang/Exception;)V" } : Jvm.MethodName) prog_12_method_2_code (4 : Nat) (Option.none : Option Jvm.ClassFile.FieldType)) ∈ lw_all := lw_g (lw_at lw_m4 127 rfl) rfl
theorem q927 : (Jvm.Cond.methodLink "PeacockLawns$Refusal" (7 : Nat) ({ cls := "java/lang/Exception", name := "<init>", desc := "(Ljava/lang/String;Ljava/lang/Throwable;ZZ)V" } : Jvm.MethodName)) ∈ lw_all := lw_g (lw_at lw_m4 128 rfl) rfl
theorem q933 : (Jvm.Cond.fieldLink "PeacockLawns$Refusal" (12 : Nat) "PeacockLawns$Refusal" "reason" "I") ∈ lw_all := lw_g (lw_at lw_m4 134 rfl) rfl
theorem q935 : (Jvm.Cond.fieldLink "PeacockLawns$Refusal" (16 : Nat) "PeacockLawns$Refusal" "detail" "I") ∈ lw_all := lw_g (lw_at lw_m4 136 rfl) rfl
theorem q937 : (Jvm.Cond.laysFinal "PeacockLawns$Refusal" "PeacockLawns$Refusal" "reason" "I") ∈ lw_all := lw_g (lw_at lw_m4 138 rfl) rfl
theorem q938 : (Jvm.Cond.soleField "PeacockLawns$Refusal" "reason") ∈ lw_all := lw_g (lw_at lw_m4 139 rfl) rfl
theorem q939 : (Jvm.Cond.laysFinal "PeacockLawns$Refusal" "PeacockLawns$Refusal" "detail" "I") ∈ lw_all := lw_g (lw_at lw_m4 140 rfl) rfl
theorem q940 : (Jvm.Cond.soleField "PeacockLawns$Refusal" "detail") ∈ lw_all := lw_g (lw_at lw_m4 141 rfl) rfl
theorem q941 : (Jvm.Cond.lays "PeacockLawns$Refusal" "java/lang/Throwable" "depth" "I") ∈ lw_all := lw_g (lw_at lw_m4 142 rfl) rfl
theorem q942 : (Jvm.Cond.superclass "PeacockLawns$Refusal" "java/lang/Exception") ∈ lw_all := lw_g (lw_at lw_m4 143 rfl) rfl
theorem q2020 : (Jvm.Cond.sameMethod "PeacockLawns$Refusal" "java/lang/Throwable" "getCause" "()Ljava/lang/Throwable;") ∈ lw_all := lw_g (lw_at lw_m9 21 rfl) rfl
theorem q2022 : (Jvm.Cond.selects "PeacockLawns$Refusal" ({ cls := "PeacockLawns$Refusal", name := "getCause", desc := "()Ljava/lang/Throwable;" } : Jvm.MethodName) ({ cls := "java/lang/Throwable", name := "getCause", desc := "()Ljava/lang/Throwable;" } : Jvm.MethodName)) ∈ lw_all := lw_g (lw_at lw_m9 23 rfl) rfl
theorem q2608 : (Jvm.Cond.castable "PeacockLawns$Refusal" "java/lang/Object") ∈ lw_tbl := lw_at lw_m11 129 rfl
theorem in_X5 : ∀ w ∈ wsX50, w ∈ lw_all := lw_in wsX50 [916, 917, 918, 919, 920, 941, 937, 939] (by decide +kernel) (by decide +kernel)
/-! PeacockLawns$Node -/
set_option maxRecDepth 100000
def RX6 : String := "PeacockLawns$Node"
def TX6 : u_T := fun k => match k with
  | 0 => ("PeacockLawns$Node", "bird", "I", true)
  | _ => ("PeacockLawns$Node", "children", "Ljava/util/List;", true)
def tyX6 : Nat → FieldType := fun k => match k with
  | 0 => .int
  | _ => .object "java/util/List"
abbrev wsX60 : List Cond := u_ws RX6 TX6 2
theorem nmX6 : ∀ a, a < 2 → ∀ b, b < 2 → a ≠ b → (TX6 a).2.1 ≠ (TX6 b).2.1 := by decide +kernel
theorem tyX6_ok : ∀ k, k < 2 → parseFieldDescriptor (TX6 k).2.2.1 = some (tyX6 k) := by decide +kernel
abbrev cX6_init : ByteArray := prog_9_method_1_code
def yX6_init : MethodName := ⟨RX6, "<init>", "(ILjava/util/List;)V"⟩
def dkwX6_init_3 : List UInt8 := [132, 3, 1, 167, 255, 207, 177]
abbrev dktX6_init_3 : List UInt8 := dkwX6_init_3 ++ []
def dkwX6_init_2 : List UInt8 := [160, 0, 22, 42, 180, 0, 10, 187, 0, 11, 89, 29, 44, 183, 0, 35, 185, 0, 38, 2, 0, 87]
abbrev dktX6_init_2 : List UInt8 := dkwX6_init_2 ++ dktX6_init_3
def dkwX6_init_1 : List UInt8 := [185, 0, 20, 1, 0, 162, 0, 45, 44, 29, 185, 0, 26, 2, 0, 192, 0, 30, 180, 0, 32, 27]
abbrev dktX6_init_1 : List UInt8 := dkwX6_init_1 ++ dktX6_init_2
def dkwX6_init_0 : List UInt8 := [42, 183, 0, 1, 42, 187, 0, 7, 89, 183, 0, 9, 181, 0, 10, 42, 27, 181, 0, 16, 3, 62, 29, 44]
abbrev dktX6_init_0 : List UInt8 := dkwX6_init_0 ++ dktX6_init_1
theorem dksX6_init_0 : cX6_init.data.toList.drop 0 = dktX6_init_0 := by decide +kernel
theorem dksX6_init_1 : cX6_init.data.toList.drop 24 = dktX6_init_1 := dk_seg dksX6_init_0 24 rfl rfl
theorem dksX6_init_2 : cX6_init.data.toList.drop 46 = dktX6_init_2 := dk_seg dksX6_init_1 22 rfl rfl
theorem dksX6_init_3 : cX6_init.data.toList.drop 68 = dktX6_init_3 := dk_seg dksX6_init_2 22 rfl rfl
theorem dX6_init_0 : decode cX6_init 0 = .ok (.aload_n 0, 1) := dk_42 (dk_at dksX6_init_0 0 rfl rfl)
theorem dX6_init_1 : decode cX6_init 1 = .ok (.invokespecial 1, 3) := dk_183 0 1 (dk_at dksX6_init_0 1 rfl rfl)
theorem dX6_init_4 : decode cX6_init 4 = .ok (.aload_n 0, 1) := dk_42 (dk_at dksX6_init_0 4 rfl rfl)
theorem dX6_init_5 : decode cX6_init 5 = .ok (.new 7, 3) := dk_187 0 7 (dk_at dksX6_init_0 5 rfl rfl)
theorem dX6_init_8 : decode cX6_init 8 = .ok (.dup, 1) := dk_89 (dk_at dksX6_init_0 8 rfl rfl)
theorem dX6_init_9 : decode cX6_init 9 = .ok (.invokespecial 9, 3) := dk_183 0 9 (dk_at dksX6_init_0 9 rfl rfl)
theorem dX6_init_12 : decode cX6_init 12 = .ok (.putfield 10, 3) := dk_181 0 10 (dk_at dksX6_init_0 12 rfl rfl)
theorem dX6_init_15 : decode cX6_init 15 = .ok (.aload_n 0, 1) := dk_42 (dk_at dksX6_init_0 15 rfl rfl)
theorem dX6_init_16 : decode cX6_init 16 = .ok (.iload_n 1, 1) := dk_27 (dk_at dksX6_init_0 16 rfl rfl)
theorem dX6_init_17 : decode cX6_init 17 = .ok (.putfield 16, 3) := dk_181 0 16 (dk_at dksX6_init_0 17 rfl rfl)
theorem dX6_init_20 : decode cX6_init 20 = .ok (.iconst 0, 1) := dk_3 (dk_at dksX6_init_0 20 rfl rfl)
theorem dX6_init_21 : decode cX6_init 21 = .ok (.istore_n 3, 1) := dk_62 (dk_at dksX6_init_0 21 rfl rfl)
theorem dX6_init_22 : decode cX6_init 22 = .ok (.iload_n 3, 1) := dk_29 (dk_at dksX6_init_0 22 rfl rfl)
theorem dX6_init_23 : decode cX6_init 23 = .ok (.aload_n 2, 1) := dk_44 (dk_at dksX6_init_0 23 rfl rfl)
theorem dX6_init_24 : decode cX6_init 24 = .ok (.invokeinterface 20 1, 5) := by decide +kernel
theorem dX6_init_29 : decode cX6_init 29 = .ok (.if_icmp .ge 45, 3) := dk_162 0 45 (dk_at dksX6_init_1 5 rfl rfl)
theorem dX6_init_32 : decode cX6_init 32 = .ok (.aload_n 2, 1) := dk_44 (dk_at dksX6_init_1 8 rfl rfl)
theorem dX6_init_33 : decode cX6_init 33 = .ok (.iload_n 3, 1) := dk_29 (dk_at dksX6_init_1 9 rfl rfl)
theorem dX6_init_34 : decode cX6_init 34 = .ok (.invokeinterface 26 2, 5) := by decide +kernel
theorem dX6_init_39 : decode cX6_init 39 = .ok (.checkcast 30, 3) := dk_192 0 30 (dk_at dksX6_init_1 15 rfl rfl)
theorem dX6_init_42 : decode cX6_init 42 = .ok (.getfield 32, 3) := dk_180 0 32 (dk_at dksX6_init_1 18 rfl rfl)
theorem dX6_init_45 : decode cX6_init 45 = .ok (.iload_n 1, 1) := dk_27 (dk_at dksX6_init_1 21 rfl rfl)
theorem dX6_init_46 : decode cX6_init 46 = .ok (.if_icmp .ne 22, 3) := dk_160 0 22 (dk_at dksX6_init_2 0 rfl rfl)
theorem dX6_init_49 : decode cX6_init 49 = .ok (.aload_n 0, 1) := dk_42 (dk_at dksX6_init_2 3 rfl rfl)
theorem dX6_init_50 : decode cX6_init 50 = .ok (.getfield 10, 3) := dk_180 0 10 (dk_at dksX6_init_2 4 rfl rfl)
theorem dX6_init_53 : decode cX6_init 53 = .ok (.new 11, 3) := dk_187 0 11 (dk_at dksX6_init_2 7 rfl rfl)
theorem dX6_init_56 : decode cX6_init 56 = .ok (.dup, 1) := dk_89 (dk_at dksX6_init_2 10 rfl rfl)
theorem dX6_init_57 : decode cX6_init 57 = .ok (.iload_n 3, 1) := dk_29 (dk_at dksX6_init_2 11 rfl rfl)
theorem dX6_init_58 : decode cX6_init 58 = .ok (.aload_n 2, 1) := dk_44 (dk_at dksX6_init_2 12 rfl rfl)
theorem dX6_init_59 : decode cX6_init 59 = .ok (.invokespecial 35, 3) := dk_183 0 35 (dk_at dksX6_init_2 13 rfl rfl)
theorem dX6_init_62 : decode cX6_init 62 = .ok (.invokeinterface 38 2, 5) := by decide +kernel
theorem dX6_init_67 : decode cX6_init 67 = .ok (.pop, 1) := dk_87 (dk_at dksX6_init_2 21 rfl rfl)
theorem dX6_init_68 : decode cX6_init 68 = .ok (.iinc 3 1, 3) := dk_132 3 1 (dk_at dksX6_init_3 0 rfl rfl)
theorem dX6_init_71 : decode cX6_init 71 = .ok (.goto (-49), 3) := dk_167 255 207 (dk_at dksX6_init_3 3 rfl rfl)
theorem dX6_init_74 : decode cX6_init 74 = .ok (.return_, 1) := dk_177 (dk_at dksX6_init_3 6 rfl rfl)
abbrev cX6_size : ByteArray := prog_9_method_2_code
def yX6_size : MethodName := ⟨RX6, "size", "()I"⟩
def dkwX6_size_2 : List UInt8 := [60, 167, 255, 230, 27, 172]
abbrev dktX6_size_2 : List UInt8 := dkwX6_size_2 ++ []
def dkwX6_size_1 : List UInt8 := [185, 0, 46, 1, 0, 153, 0, 23, 44, 185, 0, 52, 1, 0, 192, 0, 11, 78, 27, 45, 182, 0, 56, 96]
abbrev dktX6_size_1 : List UInt8 := dkwX6_size_1 ++ dktX6_size_2
def dkwX6_size_0 : List UInt8 := [42, 180, 0, 10, 185, 0, 20, 1, 0, 60, 42, 180, 0, 10, 185, 0, 42, 1, 0, 77, 44]
abbrev dktX6_size_0 : List UInt8 := dkwX6_size_0 ++ dktX6_size_1
theorem dksX6_size_0 : cX6_size.data.toList.drop 0 = dktX6_size_0 := by decide +kernel
theorem dksX6_size_1 : cX6_size.data.toList.drop 21 = dktX6_size_1 := dk_seg dksX6_size_0 21 rfl rfl
theorem dksX6_size_2 : cX6_size.data.toList.drop 45 = dktX6_size_2 := dk_seg dksX6_size_1 24 rfl rfl
theorem dX6_size_0 : decode cX6_size 0 = .ok (.aload_n 0, 1) := dk_42 (dk_at dksX6_size_0 0 rfl rfl)
theorem dX6_size_1 : decode cX6_size 1 = .ok (.getfield 10, 3) := dk_180 0 10 (dk_at dksX6_size_0 1 rfl rfl)
theorem dX6_size_4 : decode cX6_size 4 = .ok (.invokeinterface 20 1, 5) := by decide +kernel
theorem dX6_size_9 : decode cX6_size 9 = .ok (.istore_n 1, 1) := dk_60 (dk_at dksX6_size_0 9 rfl rfl)
theorem dX6_size_10 : decode cX6_size 10 = .ok (.aload_n 0, 1) := dk_42 (dk_at dksX6_size_0 10 rfl rfl)
theorem dX6_size_11 : decode cX6_size 11 = .ok (.getfield 10, 3) := dk_180 0 10 (dk_at dksX6_size_0 11 rfl rfl)
theorem dX6_size_14 : decode cX6_size 14 = .ok (.invokeinterface 42 1, 5) := by decide +kernel
theorem dX6_size_19 : decode cX6_size 19 = .ok (.astore_n 2, 1) := dk_77 (dk_at dksX6_size_0 19 rfl rfl)
theorem dX6_size_20 : decode cX6_size 20 = .ok (.aload_n 2, 1) := dk_44 (dk_at dksX6_size_0 20 rfl rfl)
theorem dX6_size_21 : decode cX6_size 21 = .ok (.invokeinterface 46 1, 5) := by decide +kernel
theorem dX6_size_26 : decode cX6_size 26 = .ok (.ifCond .eq 23, 3) := dk_153 0 23 (dk_at dksX6_size_1 5 rfl rfl)
theorem dX6_size_29 : decode cX6_size 29 = .ok (.aload_n 2, 1) := dk_44 (dk_at dksX6_size_1 8 rfl rfl)
theorem dX6_size_30 : decode cX6_size 30 = .ok (.invokeinterface 52 1, 5) := by decide +kernel
theorem dX6_size_35 : decode cX6_size 35 = .ok (.checkcast 11, 3) := dk_192 0 11 (dk_at dksX6_size_1 14 rfl rfl)
theorem dX6_size_38 : decode cX6_size 38 = .ok (.astore_n 3, 1) := dk_78 (dk_at dksX6_size_1 17 rfl rfl)
theorem dX6_size_39 : decode cX6_size 39 = .ok (.iload_n 1, 1) := dk_27 (dk_at dksX6_size_1 18 rfl rfl)
theorem dX6_size_40 : decode cX6_size 40 = .ok (.aload_n 3, 1) := dk_45 (dk_at dksX6_size_1 19 rfl rfl)
theorem dX6_size_41 : decode cX6_size 41 = .ok (.invokevirtual 56, 3) := dk_182 0 56 (dk_at dksX6_size_1 20 rfl rfl)
theorem dX6_size_44 : decode cX6_size 44 = .ok (.iadd, 1) := dk_96 (dk_at dksX6_size_1 23 rfl rfl)
theorem dX6_size_45 : decode cX6_size 45 = .ok (.istore_n 1, 1) := dk_60 (dk_at dksX6_size_2 0 rfl rfl)
theorem dX6_size_46 : decode cX6_size 46 = .ok (.goto (-26), 3) := dk_167 255 230 (dk_at dksX6_size_2 1 rfl rfl)
theorem dX6_size_49 : decode cX6_size 49 = .ok (.iload_n 1, 1) := dk_27 (dk_at dksX6_size_2 4 rfl rfl)
theorem dX6_size_50 : decode cX6_size 50 = .ok (.ireturn, 1) := dk_172 (dk_at dksX6_size_2 5 rfl rfl)
abbrev cX6_list : ByteArray := prog_9_method_3_code
def yX6_list : MethodName := ⟨RX6, "list", "(Ljava/util/List;)V"⟩
def dkwX6_list_2 : List UInt8 := [43, 182, 0, 63, 167, 255, 218, 177]
abbrev dktX6_list_2 : List UInt8 := dkwX6_list_2 ++ []
def dkwX6_list_1 : List UInt8 := [185, 0, 52, 1, 0, 192, 0, 11, 78, 43, 45, 180, 0, 16, 184, 0, 57, 185, 0, 38, 2, 0, 87, 45]
abbrev dktX6_list_1 : List UInt8 := dkwX6_list_1 ++ dktX6_list_2
def dkwX6_list_0 : List UInt8 := [42, 180, 0, 10, 185, 0, 42, 1, 0, 77, 44, 185, 0, 46, 1, 0, 153, 0, 35, 44]
abbrev dktX6_list_0 : List UInt8 := dkwX6_list_0 ++ dktX6_list_1
theorem dksX6_list_0 : cX6_list.data.toList.drop 0 = dktX6_list_0 := by decide +kernel
theorem dksX6_list_1 : cX6_list.data.toList.drop 20 = dktX6_list_1 := dk_seg dksX6_list_0 20 rfl rfl
theorem dksX6_list_2 : cX6_list.data.toList.drop 44 = dktX6_list_2 := dk_seg dksX6_list_1 24 rfl rfl
theorem dX6_list_0 : decode cX6_list 0 = .ok (.aload_n 0, 1) := dk_42 (dk_at dksX6_list_0 0 rfl rfl)
theorem dX6_list_1 : decode cX6_list 1 = .ok (.getfield 10, 3) := dk_180 0 10 (dk_at dksX6_list_0 1 rfl rfl)
theorem dX6_list_4 : decode cX6_list 4 = .ok (.invokeinterface 42 1, 5) := by decide +kernel
theorem dX6_list_9 : decode cX6_list 9 = .ok (.astore_n 2, 1) := dk_77 (dk_at dksX6_list_0 9 rfl rfl)
theorem dX6_list_10 : decode cX6_list 10 = .ok (.aload_n 2, 1) := dk_44 (dk_at dksX6_list_0 10 rfl rfl)
theorem dX6_list_11 : decode cX6_list 11 = .ok (.invokeinterface 46 1, 5) := by decide +kernel
theorem dX6_list_16 : decode cX6_list 16 = .ok (.ifCond .eq 35, 3) := dk_153 0 35 (dk_at dksX6_list_0 16 rfl rfl)
theorem dX6_list_19 : decode cX6_list 19 = .ok (.aload_n 2, 1) := dk_44 (dk_at dksX6_list_0 19 rfl rfl)
theorem dX6_list_20 : decode cX6_list 20 = .ok (.invokeinterface 52 1, 5) := by decide +kernel
theorem dX6_list_25 : decode cX6_list 25 = .ok (.checkcast 11, 3) := dk_192 0 11 (dk_at dksX6_list_1 5 rfl rfl)
theorem dX6_list_28 : decode cX6_list 28 = .ok (.astore_n 3, 1) := dk_78 (dk_at dksX6_list_1 8 rfl rfl)
theorem dX6_list_29 : decode cX6_list 29 = .ok (.aload_n 1, 1) := dk_43 (dk_at dksX6_list_1 9 rfl rfl)
theorem dX6_list_30 : decode cX6_list 30 = .ok (.aload_n 3, 1) := dk_45 (dk_at dksX6_list_1 10 rfl rfl)
theorem dX6_list_31 : decode cX6_list 31 = .ok (.getfield 16, 3) := dk_180 0 16 (dk_at dksX6_list_1 11 rfl rfl)
theorem dX6_list_34 : decode cX6_list 34 = .ok (.invokestatic 57, 3) := dk_184 0 57 (dk_at dksX6_list_1 14 rfl rfl)
theorem dX6_list_37 : decode cX6_list 37 = .ok (.invokeinterface 38 2, 5) := by decide +kernel
theorem dX6_list_42 : decode cX6_list 42 = .ok (.pop, 1) := dk_87 (dk_at dksX6_list_1 22 rfl rfl)
theorem dX6_list_43 : decode cX6_list 43 = .ok (.aload_n 3, 1) := dk_45 (dk_at dksX6_list_1 23 rfl rfl)
theorem dX6_list_44 : decode cX6_list 44 = .ok (.aload_n 1, 1) := dk_43 (dk_at dksX6_list_2 0 rfl rfl)
theorem dX6_list_45 : decode cX6_list 45 = .ok (.invokevirtual 63, 3) := dk_182 0 63 (dk_at dksX6_list_2 1 rfl rfl)
theorem dX6_list_48 : decode cX6_list 48 = .ok (.goto (-38), 3) := dk_167 255 218 (dk_at dksX6_list_2 4 rfl rfl)
theorem dX6_list_51 : decode cX6_list 51 = .ok (.return_, 1) := dk_177 (dk_at dksX6_list_2 7 rfl rfl)
theorem q111 : (Jvm.Cond.initialized "PeacockLawns$Node") ∈ lw_all := lw_g (lw_at lw_m1 32 rfl) rfl
theorem q758 : (Jvm.Cond.selects "PeacockLawns$Node" ({ cls := "java/lang/Object", name := "getClass", desc := "()Ljava/lang/Class;" } : Jvm.MethodName) ({ cls := "java/lang/Object", name := "getClass", desc := "()Ljava/lang/Class;" } : Jvm.MethodName)) ∈ lw_all := lw_g (lw_at lw_m3 199 rfl) rfl
theorem q885 : (Jvm.Cond.fieldLinkNest "PeacockLawns$Node" (32 : Nat) "PeacockLawns$Bird" "parent" "I" "PeacockLawns") ∈ lw_tbl := lw_at lw_m4 86 rfl
theorem q1130 : (Jvm.Cond.instantiable "PeacockLawns$Node" (2 : Nat)) ∈ lw_all := lw_g (lw_at lw_m5 91 rfl) rfl
theorem q1132 : (Jvm.Cond.instanceMethod ({ cls := "PeacockLawns$Node", name := "<init>", desc := "(ILjava/util/List;)V" } : Jvm.MethodName)) ∈ lw_all := lw_g (lw_at lw_m5 93 rfl) rfl
theorem q1133 : (Jvm.Cond.code ({ cls := "PeacockLawns$Node", name := "<init>", desc := "(ILjava/util/List;)V" } : Jvm.MethodName) prog_9_method_1_code (4 : Nat) (Option.none : Option Jvm.ClassFile.FieldType)) ∈ lw_all := lw_g (lw_at lw_m5 94 rfl) rfl
theorem q1134 : (Jvm.Cond.methodLink "PeacockLawns$Node" (1 : Nat) ({ cls := "java/lang/Object", name := "<init>", desc := "()V" } : Jvm.MethodName)) ∈ lw_all := lw_g (lw_at lw_m5 95 rfl) rfl
theorem q1135 : (Jvm.Cond.classLink "PeacockLawns$Node" (7 : Nat) "java/util/ArrayList") ∈ lw_all := lw_g (lw_at lw_m5 96 rfl) rfl
theorem q1136 : (Jvm.Cond.methodLink "PeacockLawns$Node" (9 : Nat) ({ cls := "java/util/ArrayList", name := "<init>", desc := "()V" } : Jvm.MethodName)) ∈ lw_all := lw_g (lw_at lw_m5 97 rfl) rfl
theorem q1137 : (Jvm.Cond.interfaceEntry "PeacockLawns$Node" (20 : Nat)) ∈ lw_tbl := lw_at lw_m5 98 rfl
theorem q1138 : (Jvm.Cond.methodLink "PeacockLawns$Node" (20 : Nat) ({ cls := "java/util/List", name := "size", desc := "()I" } : Jvm.MethodName)) ∈ lw_all := lw_g (lw_at lw_m5 99 rfl) rfl
theorem q1139 : (Jvm.Cond.interfaceEntry "PeacockLawns$Node" (26 : Nat)) ∈ lw_tbl := lw_at lw_m5 100 rfl
theorem q1140 : (Jvm.Cond.methodLink "PeacockLawns$Node" (26 : Nat) ({ cls := "java/util/List", name := "get", desc := "(I)Ljava/lang/Object;" } : Jvm.MethodName)) ∈ lw_all := lw_g (lw_at lw_m5 101 rfl) rfl
theorem q1141 : (Jvm.Cond.classLink "PeacockLawns$Node" (30 : Nat) "PeacockLawns$Bird") ∈ lw_all := lw_g (lw_at lw_m5 102 rfl) rfl
theorem q1142 : (Jvm.Cond.classLink "PeacockLawns$Node" (11 : Nat) "PeacockLawns$Node") ∈ lw_all := lw_g (lw_at lw_m5 103 rfl) rfl
theorem q1143 : (Jvm.Cond.methodLink "PeacockLawns$Node" (35 : Nat) ({ cls := "PeacockLawns$Node", name := "<init>", desc := "(ILjava/util/List;)V" } : Jvm.MethodName)) ∈ lw_all := lw_g (lw_at lw_m5 104 rfl) rfl
theorem q1144 : (Jvm.Cond.fieldLink "PeacockLawns$Node" (16 : Nat) "PeacockLawns$Node" "bird" "I") ∈ lw_all := lw_g (lw_at lw_m5 105 rfl) rfl
theorem q1145 : (Jvm.Cond.fieldLink "PeacockLawns$Node" (10 : Nat) "PeacockLawns$Node" "children" "Ljava/util/List;") ∈ lw_all := lw_g (lw_at lw_m5 106 rfl) rfl
theorem q1146 : (Jvm.Cond.laysFinal "PeacockLawns$Node" "PeacockLawns$Node" "bird" "I") ∈ lw_all := lw_g (lw_at lw_m5 107 rfl) rfl
theorem q1147 : (Jvm.Cond.soleField "PeacockLawns$Node" "bird") ∈ lw_all := lw_g (lw_at lw_m5 108 rfl) rfl
theorem q1148 : (Jvm.Cond.laysFinal "PeacockLawns$Node" "PeacockLawns$Node" "children" "Ljava/util/List;") ∈ lw_all := lw_g (lw_at lw_m5 109 rfl) rfl
theorem q1149 : (Jvm.Cond.soleField "PeacockLawns$Node" "children") ∈ lw_all := lw_g (lw_at lw_m5 110 rfl) rfl
theorem q1150 : (Jvm.Cond.superclass "PeacockLawns$Node" "java/lang/Object") ∈ lw_all := lw_g (lw_at lw_m5 111 rfl) rfl
theorem q1151 : (Jvm.Cond.interfaceEntry "PeacockLawns$Node" (38 : Nat)) ∈ lw_tbl := lw_at lw_m5 112 rfl
theorem q1152 : (Jvm.Cond.methodLink "PeacockLawns$Node" (38 : Nat) ({ cls := "java/util/List", name := "add", desc := "(Ljava/lang/Object;)Z" } : Jvm.MethodName)) ∈ lw_all := lw_g (lw_at lw_m5 113 rfl) rfl
theorem q1154 : (Jvm.Cond.instanceMethod ({ cls := "PeacockLawns$Node", name := "size", desc := "()I" } : Jvm.MethodName)) ∈ lw_all := lw_g (lw_at lw_m5 115 rfl) rfl
theorem q1155 : (Jvm.Cond.selects "PeacockLawns$Node" ({ cls := "PeacockLawns$Node", name := "size", desc := "()I" } : Jvm.MethodName) ({ cls := "PeacockLawns$Node", name := "size", desc := "()I" } : Jvm.MethodName)) ∈ lw_all := lw_g (lw_at lw_m5 116 rfl) rfl
theorem q1156 : (Jvm.Cond.code ({ cls := "PeacockLawns$Node", name := "size", desc := "()I" } : Jvm.MethodName) prog_9_method_2_code (4 : Nat) (Option.some Jvm.ClassFile.FieldType.int)) ∈ lw_all := lw_g (lw_at lw_m5 117 rfl) rfl
theorem q1157 : (Jvm.Cond.interfaceEntry "PeacockLawns$Node" (42 : Nat)) ∈ lw_tbl := lw_at lw_m5 118 rfl
theorem q1158 : (Jvm.Cond.methodLink "PeacockLawns$Node" (42 : Nat) ({ cls := "java/util/List", name := "iterator", desc := "()Ljava/util/Iterator;" } : Jvm.MethodName)) ∈ lw_all := lw_g (lw_at lw_m5 119 rfl) rfl
theorem q1159 : (Jvm.Cond.interfaceEntry "PeacockLawns$Node" (46 : Nat)) ∈ lw_tbl := lw_at lw_m5 120 rfl
theorem q1160 : (Jvm.Cond.methodLink "PeacockLawns$Node" (46 : Nat) ({ cls := "java/util/Iterator", name := "hasNext", desc := "()Z" } : Jvm.MethodName)) ∈ lw_all := lw_g (lw_at lw_m5 121 rfl) rfl
theorem q1161 : (Jvm.Cond.interfaceEntry "PeacockLawns$Node" (52 : Nat)) ∈ lw_tbl := lw_at lw_m5 122 rfl
theorem q1162 : (Jvm.Cond.methodLink "PeacockLawns$Node" (52 : Nat) ({ cls := "java/util/Iterator", name := "next", desc := "()Ljava/lang/Object;" } : Jvm.MethodName)) ∈ lw_all := lw_g (lw_at lw_m5 123 rfl) rfl
theorem q1163 : (Jvm.Cond.methodLink "PeacockLawns$Node" (56 : Nat) ({ cls := "PeacockLawns$Node", name := "size", desc := "()I" } : Jvm.MethodName)) ∈ lw_all := lw_g (lw_at lw_m5 124 rfl) rfl
theorem q1199 : (Jvm.Cond.instanceMethod ({ cls := "PeacockLawns$Node", name := "list", desc := "(Ljava/util/List;)V" } : Jvm.MethodName)) ∈ lw_all := lw_g (lw_at lw_m5 160 rfl) rfl
theorem q1200 : (Jvm.Cond.selects "PeacockLawns$Node" ({ cls := "PeacockLawns$Node", name := "list", desc := "(Ljava/util/List;)V" } : Jvm.MethodName) ({ cls := "PeacockLawns$Node", name := "list", desc := "(Ljava/util/List;)V" } : Jvm.MethodName)) ∈ lw_all := lw_g (lw_at lw_m5 161 rfl) rfl
theorem q1201 : (Jvm.Cond.code ({ cls := "PeacockLawns$Node", name := "list", desc := "(Ljava/util/List;)V" } : Jvm.MethodName) prog_9_method_3_code (4 : Nat) (Option.none : Option Jvm.ClassFile.FieldType)) ∈ lw_all := lw_g (lw_at lw_m5 162 rfl) rfl
theorem q1202 : (Jvm.Cond.methodLink "PeacockLawns$Node" (57 : Nat) ({ cls := "java/lang/Integer", name := "valueOf", desc := "(I)Ljava/lang/Integer;" } : Jvm.MethodName)) ∈ lw_all := lw_g (lw_at lw_m5 163 rfl) rfl
theorem q1222 : (Jvm.Cond.methodLink "PeacockLawns$Node" (63 : Nat) ({ cls := "PeacockLawns$Node", name := "list", desc := "(Ljava/util/List;)V" } : Jvm.MethodName)) ∈ lw_all := lw_g (lw_at lw_m5 183 rfl) rfl
theorem q2613 : (Jvm.Cond.castable "PeacockLawns$Node" "java/lang/Object") ∈ lw_tbl := lw_at lw_m11 134 rfl
theorem in_X6 : ∀ w ∈ wsX60, w ∈ lw_all := lw_in wsX60 [1146, 1148] (by decide +kernel) (by decide +kernel)
/-! PeacockLawns$Keeper -/
set_option maxRecDepth 100000
def RX7 : String := "PeacockLawns$Keeper"
def TX7 : u_T := fun k => match k with
  | 0 => ("PeacockLawns$Keeper", "lawn", "I", true)
  | 1 => ("PeacockLawns$Keeper", "hours", "I", true)
  | 2 => ("PeacockLawns$Keeper", "found", "I", true)
  | _ => ("PeacockLawns$Keeper", "cut", "I", true)
def tyX7 : Nat → FieldType := fun k => match k with
  | 0 => .int
  | 1 => .int
  | 2 => .int
  | _ => .int
abbrev wsX70 : List Cond := u_ws RX7 TX7 4
theorem nmX7 : ∀ a, a < 4 → ∀ b, b < 4 → a ≠ b → (TX7 a).2.1 ≠ (TX7 b).2.1 := by decide +kernel
theorem tyX7_ok : ∀ k, k < 4 → parseFieldDescriptor (TX7 k).2.2.1 = some (tyX7 k) := by decide +kernel
abbrev cX7_init : ByteArray := prog_7_method_1_code
def yX7_init : MethodName := ⟨RX7, "<init>", "()V"⟩
def dkwX7_init_0 : List UInt8 := [42, 7, 16, 6, 3, 3, 183, 0, 3, 177]
abbrev dktX7_init_0 : List UInt8 := dkwX7_init_0 ++ []
theorem dksX7_init_0 : cX7_init.data.toList.drop 0 = dktX7_init_0 := by decide +kernel
theorem dX7_init_0 : decode cX7_init 0 = .ok (.aload_n 0, 1) := dk_42 (dk_at dksX7_init_0 0 rfl rfl)
theorem dX7_init_1 : decode cX7_init 1 = .ok (.iconst 4, 1) := dk_7 (dk_at dksX7_init_0 1 rfl rfl)
theorem dX7_init_2 : decode cX7_init 2 = .ok (.bipush 6, 2) := dk_16 6 (dk_at dksX7_init_0 2 rfl rfl)
theorem dX7_init_4 : decode cX7_init 4 = .ok (.iconst 0, 1) := dk_3 (dk_at dksX7_init_0 4 rfl rfl)
theorem dX7_init_5 : decode cX7_init 5 = .ok (.iconst 0, 1) := dk_3 (dk_at dksX7_init_0 5 rfl rfl)
theorem dX7_init_6 : decode cX7_init 6 = .ok (.invokespecial 3, 3) := dk_183 0 3 (dk_at dksX7_init_0 6 rfl rfl)
theorem dX7_init_9 : decode cX7_init 9 = .ok (.return_, 1) := dk_177 (dk_at dksX7_init_0 9 rfl rfl)
abbrev cX7_init_2 : ByteArray := prog_7_method_2_code
def yX7_init_2 : MethodName := ⟨RX7, "<init>", "(IIII)V"⟩
def dkwX7_init_2_1 : List UInt8 := [181, 0, 24, 177]
abbrev dktX7_init_2_1 : List UInt8 := dkwX7_init_2_1 ++ []
def dkwX7_init_2_0 : List UInt8 := [42, 183, 0, 9, 42, 27, 181, 0, 14, 42, 28, 181, 0, 18, 42, 29, 181, 0, 21, 42, 21, 4]
abbrev dktX7_init_2_0 : List UInt8 := dkwX7_init_2_0 ++ dktX7_init_2_1
theorem dksX7_init_2_0 : cX7_init_2.data.toList.drop 0 = dktX7_init_2_0 := by decide +kernel
theorem dksX7_init_2_1 : cX7_init_2.data.toList.drop 22 = dktX7_init_2_1 := dk_seg dksX7_init_2_0 22 rfl rfl
theorem dX7_init_2_0 : decode cX7_init_2 0 = .ok (.aload_n 0, 1) := dk_42 (dk_at dksX7_init_2_0 0 rfl rfl)
theorem dX7_init_2_1 : decode cX7_init_2 1 = .ok (.invokespecial 9, 3) := dk_183 0 9 (dk_at dksX7_init_2_0 1 rfl rfl)
theorem dX7_init_2_4 : decode cX7_init_2 4 = .ok (.aload_n 0, 1) := dk_42 (dk_at dksX7_init_2_0 4 rfl rfl)
theorem dX7_init_2_5 : decode cX7_init_2 5 = .ok (.iload_n 1, 1) := dk_27 (dk_at dksX7_init_2_0 5 rfl rfl)
theorem dX7_init_2_6 : decode cX7_init_2 6 = .ok (.putfield 14, 3) := dk_181 0 14 (dk_at dksX7_init_2_0 6 rfl rfl)
theorem dX7_init_2_9 : decode cX7_init_2 9 = .ok (.aload_n 0, 1) := dk_42 (dk_at dksX7_init_2_0 9 rfl rfl)
theorem dX7_init_2_10 : decode cX7_init_2 10 = .ok (.iload_n 2, 1) := dk_28 (dk_at dksX7_init_2_0 10 rfl rfl)
theorem dX7_init_2_11 : decode cX7_init_2 11 = .ok (.putfield 18, 3) := dk_181 0 18 (dk_at dksX7_init_2_0 11 rfl rfl)
theorem dX7_init_2_14 : decode cX7_init_2 14 = .ok (.aload_n 0, 1) := dk_42 (dk_at dksX7_init_2_0 14 rfl rfl)
theorem dX7_init_2_15 : decode cX7_init_2 15 = .ok (.iload_n 3, 1) := dk_29 (dk_at dksX7_init_2_0 15 rfl rfl)
theorem dX7_init_2_16 : decode cX7_init_2 16 = .ok (.putfield 21, 3) := dk_181 0 21 (dk_at dksX7_init_2_0 16 rfl rfl)
theorem dX7_init_2_19 : decode cX7_init_2 19 = .ok (.aload_n 0, 1) := dk_42 (dk_at dksX7_init_2_0 19 rfl rfl)
theorem dX7_init_2_20 : decode cX7_init_2 20 = .ok (.iload 4, 2) := dk_21 4 (dk_at dksX7_init_2_0 20 rfl rfl)
theorem dX7_init_2_22 : decode cX7_init_2 22 = .ok (.putfield 24, 3) := dk_181 0 24 (dk_at dksX7_init_2_1 0 rfl rfl)
theorem dX7_init_2_25 : decode cX7_init_2 25 = .ok (.return_, 1) := dk_177 (dk_at dksX7_init_2_1 3 rfl rfl)
abbrev cX7_walked : ByteArray := prog_7_method_3_code
def yX7_walked : MethodName := ⟨RX7, "walked", "(II)LPeacockLawns$Keeper;"⟩
def dkwX7_walked_0 : List UInt8 := [187, 0, 4, 89, 27, 42, 180, 0, 18, 28, 100, 42, 180, 0, 21, 42, 180, 0, 24, 183, 0, 3, 176]
abbrev dktX7_walked_0 : List UInt8 := dkwX7_walked_0 ++ []
theorem dksX7_walked_0 : cX7_walked.data.toList.drop 0 = dktX7_walked_0 := by decide +kernel
theorem dX7_walked_0 : decode cX7_walked 0 = .ok (.new 4, 3) := dk_187 0 4 (dk_at dksX7_walked_0 0 rfl rfl)
theorem dX7_walked_3 : decode cX7_walked 3 = .ok (.dup, 1) := dk_89 (dk_at dksX7_walked_0 3 rfl rfl)
theorem dX7_walked_4 : decode cX7_walked 4 = .ok (.iload_n 1, 1) := dk_27 (dk_at dksX7_walked_0 4 rfl rfl)
theorem dX7_walked_5 : decode cX7_walked 5 = .ok (.aload_n 0, 1) := dk_42 (dk_at dksX7_walked_0 5 rfl rfl)
theorem dX7_walked_6 : decode cX7_walked 6 = .ok (.getfield 18, 3) := dk_180 0 18 (dk_at dksX7_walked_0 6 rfl rfl)
theorem dX7_walked_9 : decode cX7_walked 9 = .ok (.iload_n 2, 1) := dk_28 (dk_at dksX7_walked_0 9 rfl rfl)
theorem dX7_walked_10 : decode cX7_walked 10 = .ok (.isub, 1) := dk_100 (dk_at dksX7_walked_0 10 rfl rfl)
theorem dX7_walked_11 : decode cX7_walked 11 = .ok (.aload_n 0, 1) := dk_42 (dk_at dksX7_walked_0 11 rfl rfl)
theorem dX7_walked_12 : decode cX7_walked 12 = .ok (.getfield 21, 3) := dk_180 0 21 (dk_at dksX7_walked_0 12 rfl rfl)
theorem dX7_walked_15 : decode cX7_walked 15 = .ok (.aload_n 0, 1) := dk_42 (dk_at dksX7_walked_0 15 rfl rfl)
theorem dX7_walked_16 : decode cX7_walked 16 = .ok (.getfield 24, 3) := dk_180 0 24 (dk_at dksX7_walked_0 16 rfl rfl)
theorem dX7_walked_19 : decode cX7_walked 19 = .ok (.invokespecial 3, 3) := dk_183 0 3 (dk_at dksX7_walked_0 19 rfl rfl)
theorem dX7_walked_22 : decode cX7_walked 22 = .ok (.areturn, 1) := dk_176 (dk_at dksX7_walked_0 22 rfl rfl)
abbrev cX7_sheared : ByteArray := prog_7_method_4_code
def yX7_sheared : MethodName := ⟨RX7, "sheared", "(II)LPeacockLawns$Keeper;"⟩
def dkwX7_sheared_1 : List UInt8 := [183, 0, 3, 176]
abbrev dktX7_sheared_1 : List UInt8 := dkwX7_sheared_1 ++ []
def dkwX7_sheared_0 : List UInt8 := [187, 0, 4, 89, 42, 180, 0, 14, 42, 180, 0, 18, 28, 100, 42, 180, 0, 21, 42, 180, 0, 24, 27, 96]
abbrev dktX7_sheared_0 : List UInt8 := dkwX7_sheared_0 ++ dktX7_sheared_1
theorem dksX7_sheared_0 : cX7_sheared.data.toList.drop 0 = dktX7_sheared_0 := by decide +kernel
theorem dksX7_sheared_1 : cX7_sheared.data.toList.drop 24 = dktX7_sheared_1 := dk_seg dksX7_sheared_0 24 rfl rfl
theorem dX7_sheared_0 : decode cX7_sheared 0 = .ok (.new 4, 3) := dk_187 0 4 (dk_at dksX7_sheared_0 0 rfl rfl)
theorem dX7_sheared_3 : decode cX7_sheared 3 = .ok (.dup, 1) := dk_89 (dk_at dksX7_sheared_0 3 rfl rfl)
theorem dX7_sheared_4 : decode cX7_sheared 4 = .ok (.aload_n 0, 1) := dk_42 (dk_at dksX7_sheared_0 4 rfl rfl)
theorem dX7_sheared_5 : decode cX7_sheared 5 = .ok (.getfield 14, 3) := dk_180 0 14 (dk_at dksX7_sheared_0 5 rfl rfl)
theorem dX7_sheared_8 : decode cX7_sheared 8 = .ok (.aload_n 0, 1) := dk_42 (dk_at dksX7_sheared_0 8 rfl rfl)
theorem dX7_sheared_9 : decode cX7_sheared 9 = .ok (.getfield 18, 3) := dk_180 0 18 (dk_at dksX7_sheared_0 9 rfl rfl)
theorem dX7_sheared_12 : decode cX7_sheared 12 = .ok (.iload_n 2, 1) := dk_28 (dk_at dksX7_sheared_0 12 rfl rfl)
theorem dX7_sheared_13 : decode cX7_sheared 13 = .ok (.isub, 1) := dk_100 (dk_at dksX7_sheared_0 13 rfl rfl)
theorem dX7_sheared_14 : decode cX7_sheared 14 = .ok (.aload_n 0, 1) := dk_42 (dk_at dksX7_sheared_0 14 rfl rfl)
theorem dX7_sheared_15 : decode cX7_sheared 15 = .ok (.getfield 21, 3) := dk_180 0 21 (dk_at dksX7_sheared_0 15 rfl rfl)
theorem dX7_sheared_18 : decode cX7_sheared 18 = .ok (.aload_n 0, 1) := dk_42 (dk_at dksX7_sheared_0 18 rfl rfl)
theorem dX7_sheared_19 : decode cX7_sheared 19 = .ok (.getfield 24, 3) := dk_180 0 24 (dk_at dksX7_sheared_0 19 rfl rfl)
theorem dX7_sheared_22 : decode cX7_sheared 22 = .ok (.iload_n 1, 1) := dk_27 (dk_at dksX7_sheared_0 22 rfl rfl)
theorem dX7_sheared_23 : decode cX7_sheared 23 = .ok (.iadd, 1) := dk_96 (dk_at dksX7_sheared_0 23 rfl rfl)
theorem dX7_sheared_24 : decode cX7_sheared 24 = .ok (.invokespecial 3, 3) := dk_183 0 3 (dk_at dksX7_sheared_1 0 rfl rfl)
theorem dX7_sheared_27 : decode cX7_sheared 27 = .ok (.areturn, 1) := dk_176 (dk_at dksX7_sheared_1 3 rfl rfl)
abbrev cX7_finding : ByteArray := prog_7_method_5_code
def yX7_finding : MethodName := ⟨RX7, "finding", "(I)LPeacockLawns$Keeper;"⟩
def dkwX7_finding_1 : List UInt8 := [183, 0, 3, 176]
abbrev dktX7_finding_1 : List UInt8 := dkwX7_finding_1 ++ []
def dkwX7_finding_0 : List UInt8 := [187, 0, 4, 89, 42, 180, 0, 14, 42, 180, 0, 18, 4, 100, 42, 180, 0, 21, 27, 96, 42, 180, 0, 24]
abbrev dktX7_finding_0 : List UInt8 := dkwX7_finding_0 ++ dktX7_finding_1
theorem dksX7_finding_0 : cX7_finding.data.toList.drop 0 = dktX7_finding_0 := by decide +kernel
theorem dksX7_finding_1 : cX7_finding.data.toList.drop 24 = dktX7_finding_1 := dk_seg dksX7_finding_0 24 rfl rfl
theorem dX7_finding_0 : decode cX7_finding 0 = .ok (.new 4, 3) := dk_187 0 4 (dk_at dksX7_finding_0 0 rfl rfl)
theorem dX7_finding_3 : decode cX7_finding 3 = .ok (.dup, 1) := dk_89 (dk_at dksX7_finding_0 3 rfl rfl)
theorem dX7_finding_4 : decode cX7_finding 4 = .ok (.aload_n 0, 1) := dk_42 (dk_at dksX7_finding_0 4 rfl rfl)
theorem dX7_finding_5 : decode cX7_finding 5 = .ok (.getfield 14, 3) := dk_180 0 14 (dk_at dksX7_finding_0 5 rfl rfl)
theorem dX7_finding_8 : decode cX7_finding 8 = .ok (.aload_n 0, 1) := dk_42 (dk_at dksX7_finding_0 8 rfl rfl)
theorem dX7_finding_9 : decode cX7_finding 9 = .ok (.getfield 18, 3) := dk_180 0 18 (dk_at dksX7_finding_0 9 rfl rfl)
theorem dX7_finding_12 : decode cX7_finding 12 = .ok (.iconst 1, 1) := dk_4 (dk_at dksX7_finding_0 12 rfl rfl)
theorem dX7_finding_13 : decode cX7_finding 13 = .ok (.isub, 1) := dk_100 (dk_at dksX7_finding_0 13 rfl rfl)
theorem dX7_finding_14 : decode cX7_finding 14 = .ok (.aload_n 0, 1) := dk_42 (dk_at dksX7_finding_0 14 rfl rfl)
theorem dX7_finding_15 : decode cX7_finding 15 = .ok (.getfield 21, 3) := dk_180 0 21 (dk_at dksX7_finding_0 15 rfl rfl)
theorem dX7_finding_18 : decode cX7_finding 18 = .ok (.iload_n 1, 1) := dk_27 (dk_at dksX7_finding_0 18 rfl rfl)
theorem dX7_finding_19 : decode cX7_finding 19 = .ok (.iadd, 1) := dk_96 (dk_at dksX7_finding_0 19 rfl rfl)
theorem dX7_finding_20 : decode cX7_finding 20 = .ok (.aload_n 0, 1) := dk_42 (dk_at dksX7_finding_0 20 rfl rfl)
theorem dX7_finding_21 : decode cX7_finding 21 = .ok (.getfield 24, 3) := dk_180 0 24 (dk_at dksX7_finding_0 21 rfl rfl)
theorem dX7_finding_24 : decode cX7_finding 24 = .ok (.invokespecial 3, 3) := dk_183 0 3 (dk_at dksX7_finding_1 0 rfl rfl)
theorem dX7_finding_27 : decode cX7_finding 27 = .ok (.areturn, 1) := dk_176 (dk_at dksX7_finding_1 3 rfl rfl)
abbrev cX7_rested : ByteArray := prog_7_method_6_code
def yX7_rested : MethodName := ⟨RX7, "rested", "()LPeacockLawns$Keeper;"⟩
def dkwX7_rested_1 : List UInt8 := [180, 0, 21, 42, 180, 0, 24, 183, 0, 3, 176]
abbrev dktX7_rested_1 : List UInt8 := dkwX7_rested_1 ++ []
def dkwX7_rested_0 : List UInt8 := [42, 180, 0, 18, 16, 6, 160, 0, 7, 42, 167, 0, 24, 187, 0, 4, 89, 42, 180, 0, 14, 16, 6, 42]
abbrev dktX7_rested_0 : List UInt8 := dkwX7_rested_0 ++ dktX7_rested_1
theorem dksX7_rested_0 : cX7_rested.data.toList.drop 0 = dktX7_rested_0 := by decide +kernel
theorem dksX7_rested_1 : cX7_rested.data.toList.drop 24 = dktX7_rested_1 := dk_seg dksX7_rested_0 24 rfl rfl
theorem dX7_rested_0 : decode cX7_rested 0 = .ok (.aload_n 0, 1) := dk_42 (dk_at dksX7_rested_0 0 rfl rfl)
theorem dX7_rested_1 : decode cX7_rested 1 = .ok (.getfield 18, 3) := dk_180 0 18 (dk_at dksX7_rested_0 1 rfl rfl)
theorem dX7_rested_4 : decode cX7_rested 4 = .ok (.bipush 6, 2) := dk_16 6 (dk_at dksX7_rested_0 4 rfl rfl)
theorem dX7_rested_6 : decode cX7_rested 6 = .ok (.if_icmp .ne 7, 3) := dk_160 0 7 (dk_at dksX7_rested_0 6 rfl rfl)
theorem dX7_rested_9 : decode cX7_rested 9 = .ok (.aload_n 0, 1) := dk_42 (dk_at dksX7_rested_0 9 rfl rfl)
theorem dX7_rested_10 : decode cX7_rested 10 = .ok (.goto 24, 3) := dk_167 0 24 (dk_at dksX7_rested_0 10 rfl rfl)
theorem dX7_rested_13 : decode cX7_rested 13 = .ok (.new 4, 3) := dk_187 0 4 (dk_at dksX7_rested_0 13 rfl rfl)
theorem dX7_rested_16 : decode cX7_rested 16 = .ok (.dup, 1) := dk_89 (dk_at dksX7_rested_0 16 rfl rfl)
theorem dX7_rested_17 : decode cX7_rested 17 = .ok (.aload_n 0, 1) := dk_42 (dk_at dksX7_rested_0 17 rfl rfl)
theorem dX7_rested_18 : decode cX7_rested 18 = .ok (.getfield 14, 3) := dk_180 0 14 (dk_at dksX7_rested_0 18 rfl rfl)
theorem dX7_rested_21 : decode cX7_rested 21 = .ok (.bipush 6, 2) := dk_16 6 (dk_at dksX7_rested_0 21 rfl rfl)
theorem dX7_rested_23 : decode cX7_rested 23 = .ok (.aload_n 0, 1) := dk_42 (dk_at dksX7_rested_0 23 rfl rfl)
theorem dX7_rested_24 : decode cX7_rested 24 = .ok (.getfield 21, 3) := dk_180 0 21 (dk_at dksX7_rested_1 0 rfl rfl)
theorem dX7_rested_27 : decode cX7_rested 27 = .ok (.aload_n 0, 1) := dk_42 (dk_at dksX7_rested_1 3 rfl rfl)
theorem dX7_rested_28 : decode cX7_rested 28 = .ok (.getfield 24, 3) := dk_180 0 24 (dk_at dksX7_rested_1 4 rfl rfl)
theorem dX7_rested_31 : decode cX7_rested 31 = .ok (.invokespecial 3, 3) := dk_183 0 3 (dk_at dksX7_rested_1 7 rfl rfl)
theorem dX7_rested_34 : decode cX7_rested 34 = .ok (.areturn, 1) := dk_176 (dk_at dksX7_rested_1 10 rfl rfl)
theorem q114 : (Jvm.Cond.initialized "PeacockLawns$Keeper") ∈ lw_all := lw_g (lw_at lw_m1 35 rfl) rfl
theorem q757 : (Jvm.Cond.selects "PeacockLawns$Keeper" ({ cls := "java/lang/Object", name := "getClass", desc := "()Ljava/lang/Class;" } : Jvm.MethodName) ({ cls := "java/lang/Object", name := "getClass", desc := "()Ljava/lang/Class;" } : Jvm.MethodName)) ∈ lw_all := lw_g (lw_at lw_m3 198 rfl) rfl
theorem q1310 : (Jvm.Cond.instantiable "PeacockLawns$Keeper" (4 : Nat)) ∈ lw_all := lw_g (lw_at lw_m6 31 rfl) rfl
theorem q1312 : (Jvm.Cond.instanceMethod ({ cls := "PeacockLawns$Keeper", name := "<init>", desc := "()V" } : Jvm.MethodName)) ∈ lw_all := lw_g (lw_at lw_m6 33 rfl) rfl
theorem q1313 : (Jvm.Cond.code ({ cls := "PeacockLawns$Keeper", name := "<init>", desc := "()V" } : Jvm.MethodName) prog_7_method_1_code (1 : Nat) (Option.none : Option Jvm.ClassFile.FieldType)) ∈ lw_all := lw_g (lw_at lw_m6 34 rfl) rfl
theorem q1314 : (Jvm.Cond.methodLink "PeacockLawns$Keeper" (3 : Nat) ({ cls := "PeacockLawns$Keeper", name := "<init>", desc := "(IIII)V" } : Jvm.MethodName)) ∈ lw_all := lw_g (lw_at lw_m6 35 rfl) rfl
theorem q1315 : (Jvm.Cond.instanceMethod ({ cls := "PeacockLawns$Keeper", name := "<init>", desc := "(IIII)V" } : Jvm.MethodName)) ∈ lw_all := lw_g (lw_at lw_m6 36 rfl) rfl
theorem q1316 : (Jvm.Cond.code ({ cls := "PeacockLawns$Keeper", name := "<init>", desc := "(IIII)V" } : Jvm.MethodName) prog_7_method_2_code (5 : Nat) (Option.none : Option Jvm.ClassFile.FieldType)) ∈ lw_all := lw_g (lw_at lw_m6 37 rfl) rfl
theorem q1317 : (Jvm.Cond.methodLink "PeacockLawns$Keeper" (9 : Nat) ({ cls := "java/lang/Object", name := "<init>", desc := "()V" } : Jvm.MethodName)) ∈ lw_all := lw_g (lw_at lw_m6 38 rfl) rfl
theorem q1318 : (Jvm.Cond.fieldLink "PeacockLawns$Keeper" (14 : Nat) "PeacockLawns$Keeper" "lawn" "I") ∈ lw_all := lw_g (lw_at lw_m6 39 rfl) rfl
theorem q1321 : (Jvm.Cond.fieldLink "PeacockLawns$Keeper" (18 : Nat) "PeacockLawns$Keeper" "hours" "I") ∈ lw_all := lw_g (lw_at lw_m6 42 rfl) rfl
theorem q1324 : (Jvm.Cond.fieldLink "PeacockLawns$Keeper" (21 : Nat) "PeacockLawns$Keeper" "found" "I") ∈ lw_all := lw_g (lw_at lw_m6 45 rfl) rfl
theorem q1326 : (Jvm.Cond.fieldLink "PeacockLawns$Keeper" (24 : Nat) "PeacockLawns$Keeper" "cut" "I") ∈ lw_all := lw_g (lw_at lw_m6 47 rfl) rfl
theorem q1328 : (Jvm.Cond.laysFinal "PeacockLawns$Keeper" "PeacockLawns$Keeper" "lawn" "I") ∈ lw_all := lw_g (lw_at lw_m6 49 rfl) rfl
theorem q1329 : (Jvm.Cond.soleField "PeacockLawns$Keeper" "lawn") ∈ lw_all := lw_g (lw_at lw_m6 50 rfl) rfl
theorem q1330 : (Jvm.Cond.laysFinal "PeacockLawns$Keeper" "PeacockLawns$Keeper" "hours" "I") ∈ lw_all := lw_g (lw_at lw_m6 51 rfl) rfl
theorem q1331 : (Jvm.Cond.soleField "PeacockLawns$Keeper" "hours") ∈ lw_all := lw_g (lw_at lw_m6 52 rfl) rfl
theorem q1332 : (Jvm.Cond.laysFinal "PeacockLawns$Keeper" "PeacockLawns$Keeper" "found" "I") ∈ lw_all := lw_g (lw_at lw_m6 53 rfl) rfl
theorem q1333 : (Jvm.Cond.soleField "PeacockLawns$Keeper" "found") ∈ lw_all := lw_g (lw_at lw_m6 54 rfl) rfl
theorem q1334 : (Jvm.Cond.laysFinal "PeacockLawns$Keeper" "PeacockLawns$Keeper" "cut" "I") ∈ lw_all := lw_g (lw_at lw_m6 55 rfl) rfl
theorem q1335 : (Jvm.Cond.soleField "PeacockLawns$Keeper" "cut") ∈ lw_all := lw_g (lw_at lw_m6 56 rfl) rfl
theorem q1336 : (Jvm.Cond.superclass "PeacockLawns$Keeper" "java/lang/Object") ∈ lw_all := lw_g (lw_at lw_m6 57 rfl) rfl
theorem q1363 : (Jvm.Cond.instanceMethod ({ cls := "PeacockLawns$Keeper", name := "walked", desc := "(II)LPeacockLawns$Keeper;" } : Jvm.MethodName)) ∈ lw_all := lw_g (lw_at lw_m6 84 rfl) rfl
theorem q1364 : (Jvm.Cond.selects "PeacockLawns$Keeper" ({ cls := "PeacockLawns$Keeper", name := "walked", desc := "(II)LPeacockLawns$Keeper;" } : Jvm.MethodName) ({ cls := "PeacockLawns$Keeper", name := "walked", desc := "(II)LPeacockLawns$Keeper;" } : Jvm.MethodName)) ∈ lw_all := lw_g (lw_at lw_m6 85 rfl) rfl
theorem q1365 : (Jvm.Cond.code ({ cls := "PeacockLawns$Keeper", name := "walked", desc := "(II)LPeacockLawns$Keeper;" } : Jvm.MethodName) prog_7_method_3_code (3 : Nat) (Option.some (Jvm.ClassFile.FieldType.object "PeacockLawns$Keeper"))) ∈ lw_all := lw_g (lw_at lw_m6 86 rfl) rfl
theorem q1366 : (Jvm.Cond.classLink "PeacockLawns$Keeper" (4 : Nat) "PeacockLawns$Keeper") ∈ lw_all := lw_g (lw_at lw_m6 87 rfl) rfl
theorem q1384 : (Jvm.Cond.instanceMethod ({ cls := "PeacockLawns$Keeper", name := "sheared", desc := "(II)LPeacockLawns$Keeper;" } : Jvm.MethodName)) ∈ lw_all := lw_g (lw_at lw_m6 105 rfl) rfl
theorem q1385 : (Jvm.Cond.selects "PeacockLawns$Keeper" ({ cls := "PeacockLawns$Keeper", name := "sheared", desc := "(II)LPeacockLawns$Keeper;" } : Jvm.MethodName) ({ cls := "PeacockLawns$Keeper", name := "sheared", desc := "(II)LPeacockLawns$Keeper;" } : Jvm.MethodName)) ∈ lw_all := lw_g (lw_at lw_m6 106 rfl) rfl
theorem q1386 : (Jvm.Cond.code ({ cls := "PeacockLawns$Keeper", name := "sheared", desc := "(II)LPeacockLawns$Keeper;" } : Jvm.MethodName) prog_7_method_4_code (3 : Nat) (Option.some (Jvm.ClassFile.FieldType.object "PeacockLawns$Keeper"))) ∈ lw_all := lw_g (lw_at lw_m6 107 rfl) rfl
theorem q1401 : (Jvm.Cond.instanceMethod ({ cls := "PeacockLawns$Keeper", name := "finding", desc := "(I)LPeacockLawns$Keeper;" } : Jvm.MethodName)) ∈ lw_all := lw_g (lw_at lw_m6 122 rfl) rfl
theorem q1402 : (Jvm.Cond.selects "PeacockLawns$Keeper" ({ cls := "PeacockLawns$Keeper", name := "finding", desc := "(I)LPeacockLawns$Keeper;" } : Jvm.MethodName) ({ cls := "PeacockLawns$Keeper", name := "finding", desc := "(I)LPeacockLawns$Keeper;" } : Jvm.MethodName)) ∈ lw_all := lw_g (lw_at lw_m6 123 rfl) rfl
theorem q1403 : (Jvm.Cond.code ({ cls := "PeacockLawns$Keeper", name := "finding", desc := "(I)LPeacockLawns$Keeper;" } : Jvm.MethodName) prog_7_method_5_code (2 : Nat) (Option.some (Jvm.ClassFile.FieldType.object "PeacockLawns$Keeper"))) ∈ lw_all := lw_g (lw_at lw_m6 124 rfl) rfl
theorem q1543 : (Jvm.Cond.instanceMethod ({ cls := "PeacockLawns$Keeper", name := "rested", desc := "()LPeacockLawns$Keeper;" } : Jvm.MethodName)) ∈ lw_all := lw_g (lw_at lw_m7 24 rfl) rfl
theorem q1544 : (Jvm.Cond.selects "PeacockLawns$Keeper" ({ cls := "PeacockLawns$Keeper", name := "rested", desc := "()LPeacockLawns$Keeper;" } : Jvm.MethodName) ({ cls := "PeacockLawns$Keeper", name := "rested", desc := "()LPeacockLawns$Keeper;" } : Jvm.MethodName)) ∈ lw_all := lw_g (lw_at lw_m7 25 rfl) rfl
theorem q1545 : (Jvm.Cond.code ({ cls := "PeacockLawns$Keeper", name := "rested", desc := "()LPeacockLawns$Keeper;" } : Jvm.MethodName) prog_7_method_6_code (1 : Nat) (Option.some (Jvm.ClassFile.FieldType.object "PeacockLawns$Keeper"))) ∈ lw_all := lw_g (lw_at lw_m7 26 rfl) rfl
theorem q2616 : (Jvm.Cond.castable "PeacockLawns$Keeper" "java/lang/Object") ∈ lw_tbl := lw_at lw_m11 137 rfl
theorem in_X7 : ∀ w ∈ wsX70, w ∈ lw_all := lw_in wsX70 [1328, 1330, 1332, 1334] (by decide +kernel) (by decide +kernel)
/-! PeacockLawns$Bench -/
set_option maxRecDepth 100000
def RX8 : String := "PeacockLawns$Bench"
def TX8 : u_T := fun k => match k with
  | 0 => ("PeacockLawns$Bench", "lawn", "I", true)
  | 1 => ("PeacockLawns$Bench", "visitors", "I", true)
  | _ => ("PeacockLawns$Bench", "came", "I", true)
def tyX8 : Nat → FieldType := fun k => match k with
  | 0 => .int
  | 1 => .int
  | _ => .int
abbrev wsX80 : List Cond := u_ws RX8 TX8 3
theorem nmX8 : ∀ a, a < 3 → ∀ b, b < 3 → a ≠ b → (TX8 a).2.1 ≠ (TX8 b).2.1 := by decide +kernel
theorem tyX8_ok : ∀ k, k < 3 → parseFieldDescriptor (TX8 k).2.2.1 = some (tyX8 k) := by decide +kernel
abbrev cX8_init : ByteArray := prog_2_method_1_code
def yX8_init : MethodName := ⟨RX8, "<init>", "(I)V"⟩
def dkwX8_init_0 : List UInt8 := [42, 27, 3, 3, 183, 0, 1, 177]
abbrev dktX8_init_0 : List UInt8 := dkwX8_init_0 ++ []
theorem dksX8_init_0 : cX8_init.data.toList.drop 0 = dktX8_init_0 := by decide +kernel
theorem dX8_init_0 : decode cX8_init 0 = .ok (.aload_n 0, 1) := dk_42 (dk_at dksX8_init_0 0 rfl rfl)
theorem dX8_init_1 : decode cX8_init 1 = .ok (.iload_n 1, 1) := dk_27 (dk_at dksX8_init_0 1 rfl rfl)
theorem dX8_init_2 : decode cX8_init 2 = .ok (.iconst 0, 1) := dk_3 (dk_at dksX8_init_0 2 rfl rfl)
theorem dX8_init_3 : decode cX8_init 3 = .ok (.iconst 0, 1) := dk_3 (dk_at dksX8_init_0 3 rfl rfl)
theorem dX8_init_4 : decode cX8_init 4 = .ok (.invokespecial 1, 3) := dk_183 0 1 (dk_at dksX8_init_0 4 rfl rfl)
theorem dX8_init_7 : decode cX8_init 7 = .ok (.return_, 1) := dk_177 (dk_at dksX8_init_0 7 rfl rfl)
abbrev cX8_init_2 : ByteArray := prog_2_method_2_code
def yX8_init_2 : MethodName := ⟨RX8, "<init>", "(III)V"⟩
def dkwX8_init_2_0 : List UInt8 := [42, 183, 0, 7, 42, 27, 181, 0, 12, 42, 28, 181, 0, 16, 42, 29, 181, 0, 19, 177]
abbrev dktX8_init_2_0 : List UInt8 := dkwX8_init_2_0 ++ []
theorem dksX8_init_2_0 : cX8_init_2.data.toList.drop 0 = dktX8_init_2_0 := by decide +kernel
theorem dX8_init_2_0 : decode cX8_init_2 0 = .ok (.aload_n 0, 1) := dk_42 (dk_at dksX8_init_2_0 0 rfl rfl)
theorem dX8_init_2_1 : decode cX8_init_2 1 = .ok (.invokespecial 7, 3) := dk_183 0 7 (dk_at dksX8_init_2_0 1 rfl rfl)
theorem dX8_init_2_4 : decode cX8_init_2 4 = .ok (.aload_n 0, 1) := dk_42 (dk_at dksX8_init_2_0 4 rfl rfl)
theorem dX8_init_2_5 : decode cX8_init_2 5 = .ok (.iload_n 1, 1) := dk_27 (dk_at dksX8_init_2_0 5 rfl rfl)
theorem dX8_init_2_6 : decode cX8_init_2 6 = .ok (.putfield 12, 3) := dk_181 0 12 (dk_at dksX8_init_2_0 6 rfl rfl)
theorem dX8_init_2_9 : decode cX8_init_2 9 = .ok (.aload_n 0, 1) := dk_42 (dk_at dksX8_init_2_0 9 rfl rfl)
theorem dX8_init_2_10 : decode cX8_init_2 10 = .ok (.iload_n 2, 1) := dk_28 (dk_at dksX8_init_2_0 10 rfl rfl)
theorem dX8_init_2_11 : decode cX8_init_2 11 = .ok (.putfield 16, 3) := dk_181 0 16 (dk_at dksX8_init_2_0 11 rfl rfl)
theorem dX8_init_2_14 : decode cX8_init_2 14 = .ok (.aload_n 0, 1) := dk_42 (dk_at dksX8_init_2_0 14 rfl rfl)
theorem dX8_init_2_15 : decode cX8_init_2 15 = .ok (.iload_n 3, 1) := dk_29 (dk_at dksX8_init_2_0 15 rfl rfl)
theorem dX8_init_2_16 : decode cX8_init_2 16 = .ok (.putfield 19, 3) := dk_181 0 19 (dk_at dksX8_init_2_0 16 rfl rfl)
theorem dX8_init_2_19 : decode cX8_init_2 19 = .ok (.return_, 1) := dk_177 (dk_at dksX8_init_2_0 19 rfl rfl)
abbrev cX8_seating : ByteArray := prog_2_method_3_code
def yX8_seating : MethodName := ⟨RX8, "seating", "(I)LPeacockLawns$Bench;"⟩
def dkwX8_seating_0 : List UInt8 := [187, 0, 2, 89, 42, 180, 0, 12, 42, 180, 0, 16, 27, 96, 42, 180, 0, 19, 27, 96, 183, 0, 1, 176]
abbrev dktX8_seating_0 : List UInt8 := dkwX8_seating_0 ++ []
theorem dksX8_seating_0 : cX8_seating.data.toList.drop 0 = dktX8_seating_0 := by decide +kernel
theorem dX8_seating_0 : decode cX8_seating 0 = .ok (.new 2, 3) := dk_187 0 2 (dk_at dksX8_seating_0 0 rfl rfl)
theorem dX8_seating_3 : decode cX8_seating 3 = .ok (.dup, 1) := dk_89 (dk_at dksX8_seating_0 3 rfl rfl)
theorem dX8_seating_4 : decode cX8_seating 4 = .ok (.aload_n 0, 1) := dk_42 (dk_at dksX8_seating_0 4 rfl rfl)
theorem dX8_seating_5 : decode cX8_seating 5 = .ok (.getfield 12, 3) := dk_180 0 12 (dk_at dksX8_seating_0 5 rfl rfl)
theorem dX8_seating_8 : decode cX8_seating 8 = .ok (.aload_n 0, 1) := dk_42 (dk_at dksX8_seating_0 8 rfl rfl)
theorem dX8_seating_9 : decode cX8_seating 9 = .ok (.getfield 16, 3) := dk_180 0 16 (dk_at dksX8_seating_0 9 rfl rfl)
theorem dX8_seating_12 : decode cX8_seating 12 = .ok (.iload_n 1, 1) := dk_27 (dk_at dksX8_seating_0 12 rfl rfl)
theorem dX8_seating_13 : decode cX8_seating 13 = .ok (.iadd, 1) := dk_96 (dk_at dksX8_seating_0 13 rfl rfl)
theorem dX8_seating_14 : decode cX8_seating 14 = .ok (.aload_n 0, 1) := dk_42 (dk_at dksX8_seating_0 14 rfl rfl)
theorem dX8_seating_15 : decode cX8_seating 15 = .ok (.getfield 19, 3) := dk_180 0 19 (dk_at dksX8_seating_0 15 rfl rfl)
theorem dX8_seating_18 : decode cX8_seating 18 = .ok (.iload_n 1, 1) := dk_27 (dk_at dksX8_seating_0 18 rfl rfl)
theorem dX8_seating_19 : decode cX8_seating 19 = .ok (.iadd, 1) := dk_96 (dk_at dksX8_seating_0 19 rfl rfl)
theorem dX8_seating_20 : decode cX8_seating 20 = .ok (.invokespecial 1, 3) := dk_183 0 1 (dk_at dksX8_seating_0 20 rfl rfl)
theorem dX8_seating_23 : decode cX8_seating 23 = .ok (.areturn, 1) := dk_176 (dk_at dksX8_seating_0 23 rfl rfl)
abbrev cX8_emptied : ByteArray := prog_2_method_4_code
def yX8_emptied : MethodName := ⟨RX8, "emptied", "()LPeacockLawns$Bench;"⟩
def dkwX8_emptied_1 : List UInt8 := [183, 0, 1, 176]
abbrev dktX8_emptied_1 : List UInt8 := dkwX8_emptied_1 ++ []
def dkwX8_emptied_0 : List UInt8 := [42, 180, 0, 16, 154, 0, 7, 42, 167, 0, 19, 187, 0, 2, 89, 42, 180, 0, 12, 3, 42, 180, 0, 19]
abbrev dktX8_emptied_0 : List UInt8 := dkwX8_emptied_0 ++ dktX8_emptied_1
theorem dksX8_emptied_0 : cX8_emptied.data.toList.drop 0 = dktX8_emptied_0 := by decide +kernel
theorem dksX8_emptied_1 : cX8_emptied.data.toList.drop 24 = dktX8_emptied_1 := dk_seg dksX8_emptied_0 24 rfl rfl
theorem dX8_emptied_0 : decode cX8_emptied 0 = .ok (.aload_n 0, 1) := dk_42 (dk_at dksX8_emptied_0 0 rfl rfl)
theorem dX8_emptied_1 : decode cX8_emptied 1 = .ok (.getfield 16, 3) := dk_180 0 16 (dk_at dksX8_emptied_0 1 rfl rfl)
theorem dX8_emptied_4 : decode cX8_emptied 4 = .ok (.ifCond .ne 7, 3) := dk_154 0 7 (dk_at dksX8_emptied_0 4 rfl rfl)
theorem dX8_emptied_7 : decode cX8_emptied 7 = .ok (.aload_n 0, 1) := dk_42 (dk_at dksX8_emptied_0 7 rfl rfl)
theorem dX8_emptied_8 : decode cX8_emptied 8 = .ok (.goto 19, 3) := dk_167 0 19 (dk_at dksX8_emptied_0 8 rfl rfl)
theorem dX8_emptied_11 : decode cX8_emptied 11 = .ok (.new 2, 3) := dk_187 0 2 (dk_at dksX8_emptied_0 11 rfl rfl)
theorem dX8_emptied_14 : decode cX8_emptied 14 = .ok (.dup, 1) := dk_89 (dk_at dksX8_emptied_0 14 rfl rfl)
theorem dX8_emptied_15 : decode cX8_emptied 15 = .ok (.aload_n 0, 1) := dk_42 (dk_at dksX8_emptied_0 15 rfl rfl)
theorem dX8_emptied_16 : decode cX8_emptied 16 = .ok (.getfield 12, 3) := dk_180 0 12 (dk_at dksX8_emptied_0 16 rfl rfl)
theorem dX8_emptied_19 : decode cX8_emptied 19 = .ok (.iconst 0, 1) := dk_3 (dk_at dksX8_emptied_0 19 rfl rfl)
theorem dX8_emptied_20 : decode cX8_emptied 20 = .ok (.aload_n 0, 1) := dk_42 (dk_at dksX8_emptied_0 20 rfl rfl)
theorem dX8_emptied_21 : decode cX8_emptied 21 = .ok (.getfield 19, 3) := dk_180 0 19 (dk_at dksX8_emptied_0 21 rfl rfl)
theorem dX8_emptied_24 : decode cX8_emptied 24 = .ok (.invokespecial 1, 3) := dk_183 0 1 (dk_at dksX8_emptied_1 0 rfl rfl)
theorem dX8_emptied_27 : decode cX8_emptied 27 = .ok (.areturn, 1) := dk_176 (dk_at dksX8_emptied_1 3 rfl rfl)
theorem q115 : (Jvm.Cond.initialized "PeacockLawns$Bench") ∈ lw_all := lw_g (lw_at lw_m1 36 rfl) rfl
theorem q753 : (Jvm.Cond.selects "PeacockLawns$Bench" ({ cls := "java/lang/Object", name := "getClass", desc := "()Ljava/lang/Class;" } : Jvm.MethodName) ({ cls := "java/lang/Object", name := "getClass", desc := "()Ljava/lang/Class;" } : Jvm.MethodName)) ∈ lw_all := lw_g (lw_at lw_m3 194 rfl) rfl
theorem q1426 : (Jvm.Cond.instantiable "PeacockLawns$Bench" (3 : Nat)) ∈ lw_all := lw_g (lw_at lw_m6 147 rfl) rfl
theorem q1428 : (Jvm.Cond.instanceMethod ({ cls := "PeacockLawns$Bench", name := "<init>", desc := "(I)V" } : Jvm.MethodName)) ∈ lw_all := lw_g (lw_at lw_m6 149 rfl) rfl
theorem q1429 : (Jvm.Cond.code ({ cls := "PeacockLawns$Bench", name := "<init>", desc := "(I)V" } : Jvm.MethodName) prog_2_method_1_code (2 : Nat) (Option.none : Option Jvm.ClassFile.FieldType)) ∈ lw_all := lw_g (lw_at lw_m6 150 rfl) rfl
theorem q1430 : (Jvm.Cond.methodLink "PeacockLawns$Bench" (1 : Nat) ({ cls := "PeacockLawns$Bench", name := "<init>", desc := "(III)V" } : Jvm.MethodName)) ∈ lw_all := lw_g (lw_at lw_m6 151 rfl) rfl
theorem q1431 : (Jvm.Cond.instanceMethod ({ cls := "PeacockLawns$Bench", name := "<init>", desc := "(III)V" } : Jvm.MethodName)) ∈ lw_all := lw_g (lw_at lw_m6 152 rfl) rfl
theorem q1432 : (Jvm.Cond.code ({ cls := "PeacockLawns$Bench", name := "<init>", desc := "(III)V" } : Jvm.MethodName) prog_2_method_2_code (4 : Nat) (Option.none : Option Jvm.ClassFile.FieldType)) ∈ lw_all := lw_g (lw_at lw_m6 153 rfl) rfl
theorem q1433 : (Jvm.Cond.methodLink "PeacockLawns$Bench" (7 : Nat) ({ cls := "java/lang/Object", name := "<init>", desc := "()V" } : Jvm.MethodName)) ∈ lw_all := lw_g (lw_at lw_m6 154 rfl) rfl
theorem q1434 : (Jvm.Cond.fieldLink "PeacockLawns$Bench" (12 : Nat) "PeacockLawns$Bench" "lawn" "I") ∈ lw_all := lw_g (lw_at lw_m6 155 rfl) rfl
theorem q1437 : (Jvm.Cond.fieldLink "PeacockLawns$Bench" (16 : Nat) "PeacockLawns$Bench" "visitors" "I") ∈ lw_all := lw_g (lw_at lw_m6 158 rfl) rfl
theorem q1440 : (Jvm.Cond.fieldLink "PeacockLawns$Bench" (19 : Nat) "PeacockLawns$Bench" "came" "I") ∈ lw_all := lw_g (lw_at lw_m6 161 rfl) rfl
theorem q1442 : (Jvm.Cond.laysFinal "PeacockLawns$Bench" "PeacockLawns$Bench" "lawn" "I") ∈ lw_all := lw_g (lw_at lw_m6 163 rfl) rfl
theorem q1443 : (Jvm.Cond.soleField "PeacockLawns$Bench" "lawn") ∈ lw_all := lw_g (lw_at lw_m6 164 rfl) rfl
theorem q1444 : (Jvm.Cond.laysFinal "PeacockLawns$Bench" "PeacockLawns$Bench" "visitors" "I") ∈ lw_all := lw_g (lw_at lw_m6 165 rfl) rfl
theorem q1445 : (Jvm.Cond.soleField "PeacockLawns$Bench" "visitors") ∈ lw_all := lw_g (lw_at lw_m6 166 rfl) rfl
theorem q1446 : (Jvm.Cond.laysFinal "PeacockLawns$Bench" "PeacockLawns$Bench" "came" "I") ∈ lw_all := lw_g (lw_at lw_m6 167 rfl) rfl
theorem q1447 : (Jvm.Cond.soleField "PeacockLawns$Bench" "came") ∈ lw_all := lw_g (lw_at lw_m6 168 rfl) rfl
theorem q1448 : (Jvm.Cond.superclass "PeacockLawns$Bench" "java/lang/Object") ∈ lw_all := lw_g (lw_at lw_m6 169 rfl) rfl
theorem q1464 : (Jvm.Cond.instanceMethod ({ cls := "PeacockLawns$Bench", name := "seating", desc := "(I)LPeacockLawns$Bench;" } : Jvm.MethodName)) ∈ lw_all := lw_g (lw_at lw_m6 185 rfl) rfl
theorem q1465 : (Jvm.Cond.selects "PeacockLawns$Bench" ({ cls := "PeacockLawns$Bench", name := "seating", desc := "(I)LPeacockLawns$Bench;" } : Jvm.MethodName) ({ cls := "PeacockLawns$Bench", name := "seating", desc := "(I)LPeacockLawns$Bench;" } : Jvm.MethodName)) ∈ lw_all := lw_g (lw_at lw_m6 186 rfl) rfl
theorem q1466 : (Jvm.Cond.code ({ cls := "PeacockLawns$Bench", name := "seating", desc := "(I)LPeacockLawns$Bench;" } : Jvm.MethodName) prog_2_method_3_code (2 : Nat) (Option.some (Jvm.ClassFile.FieldType.object "PeacockLawns$Bench"))) ∈ lw_all := lw_g (lw_at lw_m6 187 rfl) rfl
theorem q1467 : (Jvm.Cond.classLink "PeacockLawns$Bench" (2 : Nat) "PeacockLawns$Bench") ∈ lw_all := lw_g (lw_at lw_m6 188 rfl) rfl
theorem q1523 : (Jvm.Cond.instanceMethod ({ cls := "PeacockLawns$Bench", name := "emptied", desc := "()LPeacockLawns$Bench;" } : Jvm.MethodName)) ∈ lw_all := lw_g (lw_at lw_m7 4 rfl) rfl
theorem q1524 : (Jvm.Cond.selects "PeacockLawns$Bench" ({ cls := "PeacockLawns$Bench", name := "emptied", desc := "()LPeacockLawns$Bench;" } : Jvm.MethodName) ({ cls := "PeacockLawns$Bench", name := "emptied", desc := "()LPeacockLawns$Bench;" } : Jvm.MethodName)) ∈ lw_all := lw_g (lw_at lw_m7 5 rfl) rfl
theorem q1525 : (Jvm.Cond.code ({ cls := "PeacockLawns$Bench", name := "emptied", desc := "()LPeacockLawns$Bench;" } : Jvm.MethodName) prog_2_method_4_code (1 : Nat) (Option.some (Jvm.ClassFile.FieldType.object "PeacockLawns$Bench"))) ∈ lw_all := lw_g (lw_at lw_m7 6 rfl) rfl
theorem q2617 : (Jvm.Cond.castable "PeacockLawns$Bench" "java/lang/Object") ∈ lw_tbl := lw_at lw_m11 138 rfl
theorem in_X8 : ∀ w ∈ wsX80, w ∈ lw_all := lw_in wsX80 [1442, 1444, 1446] (by decide +kernel) (by decide +kernel)
/-! PeacockLawns$Parser -/
set_option maxRecDepth 100000
def RX9 : String := "PeacockLawns$Parser"
def TX9 : u_T := fun k => match k with
  | 0 => ("PeacockLawns$Parser", "position", "I", false)
  | _ => ("PeacockLawns$Parser", "this$0", "LPeacockLawns;", true)
def tyX9 : Nat → FieldType := fun k => match k with
  | 0 => .int
  | _ => .object "PeacockLawns"
abbrev wsX90 : List Cond := u_ws RX9 TX9 2
theorem nmX9 : ∀ a, a < 2 → ∀ b, b < 2 → a ≠ b → (TX9 a).2.1 ≠ (TX9 b).2.1 := by decide +kernel
theorem tyX9_ok : ∀ k, k < 2 → parseFieldDescriptor (TX9 k).2.2.1 = some (tyX9 k) := by decide +kernel
abbrev cX9_init : ByteArray := prog_10_method_1_code
def yX9_init : MethodName := ⟨RX9, "<init>", "(LPeacockLawns;)V"⟩
def dkwX9_init_0 : List UInt8 := [42, 43, 181, 0, 1, 42, 183, 0, 7, 177]
abbrev dktX9_init_0 : List UInt8 := dkwX9_init_0 ++ []
theorem dksX9_init_0 : cX9_init.data.toList.drop 0 = dktX9_init_0 := by decide +kernel
theorem dX9_init_0 : decode cX9_init 0 = .ok (.aload_n 0, 1) := dk_42 (dk_at dksX9_init_0 0 rfl rfl)
theorem dX9_init_1 : decode cX9_init 1 = .ok (.aload_n 1, 1) := dk_43 (dk_at dksX9_init_0 1 rfl rfl)
theorem dX9_init_2 : decode cX9_init 2 = .ok (.putfield 1, 3) := dk_181 0 1 (dk_at dksX9_init_0 2 rfl rfl)
theorem dX9_init_5 : decode cX9_init 5 = .ok (.aload_n 0, 1) := dk_42 (dk_at dksX9_init_0 5 rfl rfl)
theorem dX9_init_6 : decode cX9_init 6 = .ok (.invokespecial 7, 3) := dk_183 0 7 (dk_at dksX9_init_0 6 rfl rfl)
theorem dX9_init_9 : decode cX9_init 9 = .ok (.return_, 1) := dk_177 (dk_at dksX9_init_0 9 rfl rfl)
abbrev cX9_text : ByteArray := prog_10_method_7_code
def yX9_text : MethodName := ⟨RX9, "text", "()Ljava/util/List;"⟩
def dkwX9_text_2 : List UInt8 := [182, 0, 119, 185, 0, 123, 2, 0, 87, 167, 255, 219, 43, 176]
abbrev dktX9_text_2 : List UInt8 := dkwX9_text_2 ++ []
def dkwX9_text_1 : List UInt8 := [180, 0, 1, 180, 0, 17, 182, 0, 23, 162, 0, 26, 42, 16, 59, 16, 59, 182, 0, 46, 61, 43, 42]
abbrev dktX9_text_1 : List UInt8 := dkwX9_text_1 ++ dktX9_text_2
def dkwX9_text_0 : List UInt8 := [187, 0, 116, 89, 183, 0, 118, 76, 43, 42, 182, 0, 119, 185, 0, 123, 2, 0, 87, 42, 180, 0, 13, 42]
abbrev dktX9_text_0 : List UInt8 := dkwX9_text_0 ++ dktX9_text_1
theorem dksX9_text_0 : cX9_text.data.toList.drop 0 = dktX9_text_0 := by decide +kernel
theorem dksX9_text_1 : cX9_text.data.toList.drop 24 = dktX9_text_1 := dk_seg dksX9_text_0 24 rfl rfl
theorem dksX9_text_2 : cX9_text.data.toList.drop 47 = dktX9_text_2 := dk_seg dksX9_text_1 23 rfl rfl
theorem dX9_text_0 : decode cX9_text 0 = .ok (.new 116, 3) := dk_187 0 116 (dk_at dksX9_text_0 0 rfl rfl)
theorem dX9_text_3 : decode cX9_text 3 = .ok (.dup, 1) := dk_89 (dk_at dksX9_text_0 3 rfl rfl)
theorem dX9_text_4 : decode cX9_text 4 = .ok (.invokespecial 118, 3) := dk_183 0 118 (dk_at dksX9_text_0 4 rfl rfl)
theorem dX9_text_7 : decode cX9_text 7 = .ok (.astore_n 1, 1) := dk_76 (dk_at dksX9_text_0 7 rfl rfl)
theorem dX9_text_8 : decode cX9_text 8 = .ok (.aload_n 1, 1) := dk_43 (dk_at dksX9_text_0 8 rfl rfl)
theorem dX9_text_9 : decode cX9_text 9 = .ok (.aload_n 0, 1) := dk_42 (dk_at dksX9_text_0 9 rfl rfl)
theorem dX9_text_10 : decode cX9_text 10 = .ok (.invokevirtual 119, 3) := dk_182 0 119 (dk_at dksX9_text_0 10 rfl rfl)
theorem dX9_text_13 : decode cX9_text 13 = .ok (.invokeinterface 123 2, 5) := by decide +kernel
theorem dX9_text_18 : decode cX9_text 18 = .ok (.pop, 1) := dk_87 (dk_at dksX9_text_0 18 rfl rfl)
theorem dX9_text_19 : decode cX9_text 19 = .ok (.aload_n 0, 1) := dk_42 (dk_at dksX9_text_0 19 rfl rfl)
theorem dX9_text_20 : decode cX9_text 20 = .ok (.getfield 13, 3) := dk_180 0 13 (dk_at dksX9_text_0 20 rfl rfl)
theorem dX9_text_23 : decode cX9_text 23 = .ok (.aload_n 0, 1) := dk_42 (dk_at dksX9_text_0 23 rfl rfl)
theorem dX9_text_24 : decode cX9_text 24 = .ok (.getfield 1, 3) := dk_180 0 1 (dk_at dksX9_text_1 0 rfl rfl)
theorem dX9_text_27 : decode cX9_text 27 = .ok (.getfield 17, 3) := dk_180 0 17 (dk_at dksX9_text_1 3 rfl rfl)
theorem dX9_text_30 : decode cX9_text 30 = .ok (.invokevirtual 23, 3) := dk_182 0 23 (dk_at dksX9_text_1 6 rfl rfl)
theorem dX9_text_33 : decode cX9_text 33 = .ok (.if_icmp .ge 26, 3) := dk_162 0 26 (dk_at dksX9_text_1 9 rfl rfl)
theorem dX9_text_36 : decode cX9_text 36 = .ok (.aload_n 0, 1) := dk_42 (dk_at dksX9_text_1 12 rfl rfl)
theorem dX9_text_37 : decode cX9_text 37 = .ok (.bipush 59, 2) := dk_16 59 (dk_at dksX9_text_1 13 rfl rfl)
theorem dX9_text_39 : decode cX9_text 39 = .ok (.bipush 59, 2) := dk_16 59 (dk_at dksX9_text_1 15 rfl rfl)
theorem dX9_text_41 : decode cX9_text 41 = .ok (.invokevirtual 46, 3) := dk_182 0 46 (dk_at dksX9_text_1 17 rfl rfl)
theorem dX9_text_44 : decode cX9_text 44 = .ok (.istore_n 2, 1) := dk_61 (dk_at dksX9_text_1 20 rfl rfl)
theorem dX9_text_45 : decode cX9_text 45 = .ok (.aload_n 1, 1) := dk_43 (dk_at dksX9_text_1 21 rfl rfl)
theorem dX9_text_46 : decode cX9_text 46 = .ok (.aload_n 0, 1) := dk_42 (dk_at dksX9_text_1 22 rfl rfl)
theorem dX9_text_47 : decode cX9_text 47 = .ok (.invokevirtual 119, 3) := dk_182 0 119 (dk_at dksX9_text_2 0 rfl rfl)
theorem dX9_text_50 : decode cX9_text 50 = .ok (.invokeinterface 123 2, 5) := by decide +kernel
theorem dX9_text_55 : decode cX9_text 55 = .ok (.pop, 1) := dk_87 (dk_at dksX9_text_2 8 rfl rfl)
theorem dX9_text_56 : decode cX9_text 56 = .ok (.goto (-37), 3) := dk_167 255 219 (dk_at dksX9_text_2 9 rfl rfl)
theorem dX9_text_59 : decode cX9_text 59 = .ok (.aload_n 1, 1) := dk_43 (dk_at dksX9_text_2 12 rfl rfl)
theorem dX9_text_60 : decode cX9_text 60 = .ok (.areturn, 1) := dk_176 (dk_at dksX9_text_2 13 rfl rfl)
abbrev cX9_command : ByteArray := prog_10_method_6_code
def yX9_command : MethodName := ⟨RX9, "command", "()LPeacockLawns$Deed;"⟩
def dkwX9_command_12 : List UInt8 := [29, 21, 6, 186, 0, 112, 0, 0, 167, 0, 11, 29, 21, 6, 186, 0, 115, 0, 0, 176]
abbrev dktX9_command_12 : List UInt8 := dkwX9_command_12 ++ []
def dkwX9_command_11 : List UInt8 := [21, 7, 186, 0, 107, 0, 0, 176, 42, 4, 182, 0, 89, 54, 6, 43, 18, 110, 182, 0, 81, 153, 0, 14]
abbrev dktX9_command_11 : List UInt8 := dkwX9_command_11 ++ dktX9_command_12
def dkwX9_command_10 : List UInt8 := [186, 0, 106, 0, 0, 176, 42, 5, 182, 0, 89, 54, 6, 42, 5, 182, 0, 89, 54, 7, 29, 21, 6]
abbrev dktX9_command_10 : List UInt8 := dkwX9_command_10 ++ dktX9_command_11
def dkwX9_command_9 : List UInt8 := [29, 186, 0, 100, 0, 0, 176, 29, 186, 0, 104, 0, 0, 176, 29, 186, 0, 105, 0, 0, 176, 29]
abbrev dktX9_command_9 : List UInt8 := dkwX9_command_9 ++ dktX9_command_10
def dkwX9_command_8 : List UInt8 := [170, 0, 0, 0, 86, 0, 0, 0, 0, 0, 0, 0, 4, 0, 0, 0, 33, 0, 0, 0, 40, 0, 0, 0, 47, 0, 0, 0, 54, 0, 0, 0, 61]
abbrev dktX9_command_8 : List UInt8 := dkwX9_command_8 ++ dktX9_command_9
def dkwX9_command_7 : List UInt8 := [182, 0, 81, 153, 0, 6, 7, 54, 5, 21, 5]
abbrev dktX9_command_7 : List UInt8 := dkwX9_command_7 ++ dktX9_command_8
def dkwX9_command_6 : List UInt8 := [167, 0, 32, 25, 4, 18, 87, 182, 0, 81, 153, 0, 22, 6, 54, 5, 167, 0, 16, 25, 4, 18, 98]
abbrev dktX9_command_6 : List UInt8 := dkwX9_command_6 ++ dktX9_command_7
def dkwX9_command_5 : List UInt8 := [153, 0, 54, 4, 54, 5, 167, 0, 48, 25, 4, 18, 85, 182, 0, 81, 153, 0, 38, 5, 54, 5]
abbrev dktX9_command_5 : List UInt8 := dkwX9_command_5 ++ dktX9_command_6
def dkwX9_command_4 : List UInt8 := [25, 4, 18, 96, 182, 0, 81, 153, 0, 70, 3, 54, 5, 167, 0, 64, 25, 4, 18, 79, 182, 0, 81]
abbrev dktX9_command_4 : List UInt8 := dkwX9_command_4 ++ dktX9_command_5
def dkwX9_command_3 : List UInt8 := [171, 0, 0, 0, 126, 0, 0, 0, 5, 0, 1, 161, 164, 0, 0, 0, 81, 0, 46, 240, 87, 0, 0, 0, 97, 0, 47, 245, 185, 0, 0, 0, 49, 0, 53, 207, 82, 0, 0, 0, 65, 6, 133, 92, 225, 0, 0, 0, 113]
abbrev dktX9_command_3 : List UInt8 := dkwX9_command_3 ++ dktX9_command_4
def dkwX9_command_2 : List UInt8 := [182, 0, 89, 62, 43, 58, 4, 2, 54, 5, 25, 4, 182, 0, 93]
abbrev dktX9_command_2 : List UInt8 := dkwX9_command_2 ++ dktX9_command_3
def dkwX9_command_1 : List UInt8 := [18, 87, 182, 0, 81, 153, 0, 7, 4, 167, 0, 4, 3, 61, 42, 28, 153, 0, 7, 5, 167, 0, 4, 4]
abbrev dktX9_command_1 : List UInt8 := dkwX9_command_1 ++ dktX9_command_2
def dkwX9_command_0 : List UInt8 := [42, 182, 0, 76, 76, 43, 18, 79, 182, 0, 81, 154, 0, 21, 43, 18, 85, 182, 0, 81, 154, 0, 12, 43]
abbrev dktX9_command_0 : List UInt8 := dkwX9_command_0 ++ dktX9_command_1
theorem dksX9_command_0 : cX9_command.data.toList.drop 0 = dktX9_command_0 := by decide +kernel
theorem dksX9_command_1 : cX9_command.data.toList.drop 24 = dktX9_command_1 := dk_seg dksX9_command_0 24 rfl rfl
theorem dksX9_command_2 : cX9_command.data.toList.drop 48 = dktX9_command_2 := dk_seg dksX9_command_1 24 rfl rfl
theorem dksX9_command_3 : cX9_command.data.toList.drop 63 = dktX9_command_3 := dk_seg dksX9_command_2 15 rfl rfl
theorem dksX9_command_4 : cX9_command.data.toList.drop 112 = dktX9_command_4 := dk_seg dksX9_command_3 49 rfl rfl
theorem dksX9_command_5 : cX9_command.data.toList.drop 135 = dktX9_command_5 := dk_seg dksX9_command_4 23 rfl rfl
theorem dksX9_command_6 : cX9_command.data.toList.drop 157 = dktX9_command_6 := dk_seg dksX9_command_5 22 rfl rfl
theorem dksX9_command_7 : cX9_command.data.toList.drop 180 = dktX9_command_7 := dk_seg dksX9_command_6 23 rfl rfl
theorem dksX9_command_8 : cX9_command.data.toList.drop 191 = dktX9_command_8 := dk_seg dksX9_command_7 11 rfl rfl
theorem dksX9_command_9 : cX9_command.data.toList.drop 224 = dktX9_command_9 := dk_seg dksX9_command_8 33 rfl rfl
theorem dksX9_command_10 : cX9_command.data.toList.drop 246 = dktX9_command_10 := dk_seg dksX9_command_9 22 rfl rfl
theorem dksX9_command_11 : cX9_command.data.toList.drop 269 = dktX9_command_11 := dk_seg dksX9_command_10 23 rfl rfl
theorem dksX9_command_12 : cX9_command.data.toList.drop 293 = dktX9_command_12 := dk_seg dksX9_command_11 24 rfl rfl
theorem dX9_command_0 : decode cX9_command 0 = .ok (.aload_n 0, 1) := dk_42 (dk_at dksX9_command_0 0 rfl rfl)
theorem dX9_command_1 : decode cX9_command 1 = .ok (.invokevirtual 76, 3) := dk_182 0 76 (dk_at dksX9_command_0 1 rfl rfl)
theorem dX9_command_4 : decode cX9_command 4 = .ok (.astore_n 1, 1) := dk_76 (dk_at dksX9_command_0 4 rfl rfl)
theorem dX9_command_5 : decode cX9_command 5 = .ok (.aload_n 1, 1) := dk_43 (dk_at dksX9_command_0 5 rfl rfl)
theorem dX9_command_6 : decode cX9_command 6 = .ok (.ldc 79, 2) := dk_18 79 (dk_at dksX9_command_0 6 rfl rfl)
theorem dX9_command_8 : decode cX9_command 8 = .ok (.invokevirtual 81, 3) := dk_182 0 81 (dk_at dksX9_command_0 8 rfl rfl)
theorem dX9_command_11 : decode cX9_command 11 = .ok (.ifCond .ne 21, 3) := dk_154 0 21 (dk_at dksX9_command_0 11 rfl rfl)
theorem dX9_command_14 : decode cX9_command 14 = .ok (.aload_n 1, 1) := dk_43 (dk_at dksX9_command_0 14 rfl rfl)
theorem dX9_command_15 : decode cX9_command 15 = .ok (.ldc 85, 2) := dk_18 85 (dk_at dksX9_command_0 15 rfl rfl)
theorem dX9_command_17 : decode cX9_command 17 = .ok (.invokevirtual 81, 3) := dk_182 0 81 (dk_at dksX9_command_0 17 rfl rfl)
theorem dX9_command_20 : decode cX9_command 20 = .ok (.ifCond .ne 12, 3) := dk_154 0 12 (dk_at dksX9_command_0 20 rfl rfl)
theorem dX9_command_23 : decode cX9_command 23 = .ok (.aload_n 1, 1) := dk_43 (dk_at dksX9_command_0 23 rfl rfl)
theorem dX9_command_24 : decode cX9_command 24 = .ok (.ldc 87, 2) := dk_18 87 (dk_at dksX9_command_1 0 rfl rfl)
theorem dX9_command_26 : decode cX9_command 26 = .ok (.invokevirtual 81, 3) := dk_182 0 81 (dk_at dksX9_command_1 2 rfl rfl)
theorem dX9_command_29 : decode cX9_command 29 = .ok (.ifCond .eq 7, 3) := dk_153 0 7 (dk_at dksX9_command_1 5 rfl rfl)
theorem dX9_command_32 : decode cX9_command 32 = .ok (.iconst 1, 1) := dk_4 (dk_at dksX9_command_1 8 rfl rfl)
theorem dX9_command_33 : decode cX9_command 33 = .ok (.goto 4, 3) := dk_167 0 4 (dk_at dksX9_command_1 9 rfl rfl)
theorem dX9_command_36 : decode cX9_command 36 = .ok (.iconst 0, 1) := dk_3 (dk_at dksX9_command_1 12 rfl rfl)
theorem dX9_command_37 : decode cX9_command 37 = .ok (.istore_n 2, 1) := dk_61 (dk_at dksX9_command_1 13 rfl rfl)
theorem dX9_command_38 : decode cX9_command 38 = .ok (.aload_n 0, 1) := dk_42 (dk_at dksX9_command_1 14 rfl rfl)
theorem dX9_command_39 : decode cX9_command 39 = .ok (.iload_n 2, 1) := dk_28 (dk_at dksX9_command_1 15 rfl rfl)
theorem dX9_command_40 : decode cX9_command 40 = .ok (.ifCond .eq 7, 3) := dk_153 0 7 (dk_at dksX9_command_1 16 rfl rfl)
theorem dX9_command_43 : decode cX9_command 43 = .ok (.iconst 2, 1) := dk_5 (dk_at dksX9_command_1 19 rfl rfl)
theorem dX9_command_44 : decode cX9_command 44 = .ok (.goto 4, 3) := dk_167 0 4 (dk_at dksX9_command_1 20 rfl rfl)
theorem dX9_command_47 : decode cX9_command 47 = .ok (.iconst 1, 1) := dk_4 (dk_at dksX9_command_1 23 rfl rfl)
theorem dX9_command_48 : decode cX9_command 48 = .ok (.invokevirtual 89, 3) := dk_182 0 89 (dk_at dksX9_command_2 0 rfl rfl)
theorem dX9_command_51 : decode cX9_command 51 = .ok (.istore_n 3, 1) := dk_62 (dk_at dksX9_command_2 3 rfl rfl)
theorem dX9_command_52 : decode cX9_command 52 = .ok (.aload_n 1, 1) := dk_43 (dk_at dksX9_command_2 4 rfl rfl)
theorem dX9_command_53 : decode cX9_command 53 = .ok (.astore 4, 2) := dk_58 4 (dk_at dksX9_command_2 5 rfl rfl)
theorem dX9_command_55 : decode cX9_command 55 = .ok (.iconst (-1), 1) := dk_2 (dk_at dksX9_command_2 7 rfl rfl)
theorem dX9_command_56 : decode cX9_command 56 = .ok (.istore 5, 2) := dk_54 5 (dk_at dksX9_command_2 8 rfl rfl)
theorem dX9_command_58 : decode cX9_command 58 = .ok (.aload 4, 2) := dk_25 4 (dk_at dksX9_command_2 10 rfl rfl)
theorem dX9_command_60 : decode cX9_command 60 = .ok (.invokevirtual 93, 3) := dk_182 0 93 (dk_at dksX9_command_2 12 rfl rfl)
theorem dX9_command_63 : decode cX9_command 63 = .ok (.lookupswitch 126 #[(106916, 81), (3076183, 97), (3143097, 49), (3526482, 65), (109403361, 113)], 49) := by decide +kernel
theorem dX9_command_112 : decode cX9_command 112 = .ok (.aload 4, 2) := dk_25 4 (dk_at dksX9_command_4 0 rfl rfl)
theorem dX9_command_114 : decode cX9_command 114 = .ok (.ldc 96, 2) := dk_18 96 (dk_at dksX9_command_4 2 rfl rfl)
theorem dX9_command_116 : decode cX9_command 116 = .ok (.invokevirtual 81, 3) := dk_182 0 81 (dk_at dksX9_command_4 4 rfl rfl)
theorem dX9_command_119 : decode cX9_command 119 = .ok (.ifCond .eq 70, 3) := dk_153 0 70 (dk_at dksX9_command_4 7 rfl rfl)
theorem dX9_command_122 : decode cX9_command 122 = .ok (.iconst 0, 1) := dk_3 (dk_at dksX9_command_4 10 rfl rfl)
theorem dX9_command_123 : decode cX9_command 123 = .ok (.istore 5, 2) := dk_54 5 (dk_at dksX9_command_4 11 rfl rfl)
theorem dX9_command_125 : decode cX9_command 125 = .ok (.goto 64, 3) := dk_167 0 64 (dk_at dksX9_command_4 13 rfl rfl)
theorem dX9_command_128 : decode cX9_command 128 = .ok (.aload 4, 2) := dk_25 4 (dk_at dksX9_command_4 16 rfl rfl)
theorem dX9_command_130 : decode cX9_command 130 = .ok (.ldc 79, 2) := dk_18 79 (dk_at dksX9_command_4 18 rfl rfl)
theorem dX9_command_132 : decode cX9_command 132 = .ok (.invokevirtual 81, 3) := dk_182 0 81 (dk_at dksX9_command_4 20 rfl rfl)
theorem dX9_command_135 : decode cX9_command 135 = .ok (.ifCond .eq 54, 3) := dk_153 0 54 (dk_at dksX9_command_5 0 rfl rfl)
theorem dX9_command_138 : decode cX9_command 138 = .ok (.iconst 1, 1) := dk_4 (dk_at dksX9_command_5 3 rfl rfl)
theorem dX9_command_139 : decode cX9_command 139 = .ok (.istore 5, 2) := dk_54 5 (dk_at dksX9_command_5 4 rfl rfl)
theorem dX9_command_141 : decode cX9_command 141 = .ok (.goto 48, 3) := dk_167 0 48 (dk_at dksX9_command_5 6 rfl rfl)
theorem dX9_command_144 : decode cX9_command 144 = .ok (.aload 4, 2) := dk_25 4 (dk_at dksX9_command_5 9 rfl rfl)
theorem dX9_command_146 : decode cX9_command 146 = .ok (.ldc 85, 2) := dk_18 85 (dk_at dksX9_command_5 11 rfl rfl)
theorem dX9_command_148 : decode cX9_command 148 = .ok (.invokevirtual 81, 3) := dk_182 0 81 (dk_at dksX9_command_5 13 rfl rfl)
theorem dX9_command_151 : decode cX9_command 151 = .ok (.ifCond .eq 38, 3) := dk_153 0 38 (dk_at dksX9_command_5 16 rfl rfl)
theorem dX9_command_154 : decode cX9_command 154 = .ok (.iconst 2, 1) := dk_5 (dk_at dksX9_command_5 19 rfl rfl)
theorem dX9_command_155 : decode cX9_command 155 = .ok (.istore 5, 2) := dk_54 5 (dk_at dksX9_command_5 20 rfl rfl)
theorem dX9_command_157 : decode cX9_command 157 = .ok (.goto 32, 3) := dk_167 0 32 (dk_at dksX9_command_6 0 rfl rfl)
theorem dX9_command_160 : decode cX9_command 160 = .ok (.aload 4, 2) := dk_25 4 (dk_at dksX9_command_6 3 rfl rfl)
theorem dX9_command_162 : decode cX9_command 162 = .ok (.ldc 87, 2) := dk_18 87 (dk_at dksX9_command_6 5 rfl rfl)
theorem dX9_command_164 : decode cX9_command 164 = .ok (.invokevirtual 81, 3) := dk_182 0 81 (dk_at dksX9_command_6 7 rfl rfl)
theorem dX9_command_167 : decode cX9_command 167 = .ok (.ifCond .eq 22, 3) := dk_153 0 22 (dk_at dksX9_command_6 10 rfl rfl)
theorem dX9_command_170 : decode cX9_command 170 = .ok (.iconst 3, 1) := dk_6 (dk_at dksX9_command_6 13 rfl rfl)
theorem dX9_command_171 : decode cX9_command 171 = .ok (.istore 5, 2) := dk_54 5 (dk_at dksX9_command_6 14 rfl rfl)
theorem dX9_command_173 : decode cX9_command 173 = .ok (.goto 16, 3) := dk_167 0 16 (dk_at dksX9_command_6 16 rfl rfl)
theorem dX9_command_176 : decode cX9_command 176 = .ok (.aload 4, 2) := dk_25 4 (dk_at dksX9_command_6 19 rfl rfl)
theorem dX9_command_178 : decode cX9_command 178 = .ok (.ldc 98, 2) := dk_18 98 (dk_at dksX9_command_6 21 rfl rfl)
theorem dX9_command_180 : decode cX9_command 180 = .ok (.invokevirtual 81, 3) := dk_182 0 81 (dk_at dksX9_command_7 0 rfl rfl)
theorem dX9_command_183 : decode cX9_command 183 = .ok (.ifCond .eq 6, 3) := dk_153 0 6 (dk_at dksX9_command_7 3 rfl rfl)
theorem dX9_command_186 : decode cX9_command 186 = .ok (.iconst 4, 1) := dk_7 (dk_at dksX9_command_7 6 rfl rfl)
theorem dX9_command_187 : decode cX9_command 187 = .ok (.istore 5, 2) := dk_54 5 (dk_at dksX9_command_7 7 rfl rfl)
theorem dX9_command_189 : decode cX9_command 189 = .ok (.iload 5, 2) := dk_21 5 (dk_at dksX9_command_7 9 rfl rfl)
theorem dX9_command_191 : decode cX9_command 191 = .ok (.tableswitch 86 0 4 #[33, 40, 47, 54, 61], 33) := by decide +kernel
theorem dX9_command_224 : decode cX9_command 224 = .ok (.iload_n 3, 1) := dk_29 (dk_at dksX9_command_9 0 rfl rfl)
theorem dX9_command_225 : decode cX9_command 225 = .ok (.invokedynamic 100, 5) := by decide +kernel
theorem dX9_command_230 : decode cX9_command 230 = .ok (.areturn, 1) := dk_176 (dk_at dksX9_command_9 6 rfl rfl)
theorem dX9_command_231 : decode cX9_command 231 = .ok (.iload_n 3, 1) := dk_29 (dk_at dksX9_command_9 7 rfl rfl)
theorem dX9_command_232 : decode cX9_command 232 = .ok (.invokedynamic 104, 5) := by decide +kernel
theorem dX9_command_237 : decode cX9_command 237 = .ok (.areturn, 1) := dk_176 (dk_at dksX9_command_9 13 rfl rfl)
theorem dX9_command_238 : decode cX9_command 238 = .ok (.iload_n 3, 1) := dk_29 (dk_at dksX9_command_9 14 rfl rfl)
theorem dX9_command_239 : decode cX9_command 239 = .ok (.invokedynamic 105, 5) := by decide +kernel
theorem dX9_command_244 : decode cX9_command 244 = .ok (.areturn, 1) := dk_176 (dk_at dksX9_command_9 20 rfl rfl)
theorem dX9_command_245 : decode cX9_command 245 = .ok (.iload_n 3, 1) := dk_29 (dk_at dksX9_command_9 21 rfl rfl)
theorem dX9_command_246 : decode cX9_command 246 = .ok (.invokedynamic 106, 5) := by decide +kernel
theorem dX9_command_251 : decode cX9_command 251 = .ok (.areturn, 1) := dk_176 (dk_at dksX9_command_10 5 rfl rfl)
theorem dX9_command_252 : decode cX9_command 252 = .ok (.aload_n 0, 1) := dk_42 (dk_at dksX9_command_10 6 rfl rfl)
theorem dX9_command_253 : decode cX9_command 253 = .ok (.iconst 2, 1) := dk_5 (dk_at dksX9_command_10 7 rfl rfl)
theorem dX9_command_254 : decode cX9_command 254 = .ok (.invokevirtual 89, 3) := dk_182 0 89 (dk_at dksX9_command_10 8 rfl rfl)
theorem dX9_command_257 : decode cX9_command 257 = .ok (.istore 6, 2) := dk_54 6 (dk_at dksX9_command_10 11 rfl rfl)
theorem dX9_command_259 : decode cX9_command 259 = .ok (.aload_n 0, 1) := dk_42 (dk_at dksX9_command_10 13 rfl rfl)
theorem dX9_command_260 : decode cX9_command 260 = .ok (.iconst 2, 1) := dk_5 (dk_at dksX9_command_10 14 rfl rfl)
theorem dX9_command_261 : decode cX9_command 261 = .ok (.invokevirtual 89, 3) := dk_182 0 89 (dk_at dksX9_command_10 15 rfl rfl)
theorem dX9_command_264 : decode cX9_command 264 = .ok (.istore 7, 2) := dk_54 7 (dk_at dksX9_command_10 18 rfl rfl)
theorem dX9_command_266 : decode cX9_command 266 = .ok (.iload_n 3, 1) := dk_29 (dk_at dksX9_command_10 20 rfl rfl)
theorem dX9_command_267 : decode cX9_command 267 = .ok (.iload 6, 2) := dk_21 6 (dk_at dksX9_command_10 21 rfl rfl)
theorem dX9_command_269 : decode cX9_command 269 = .ok (.iload 7, 2) := dk_21 7 (dk_at dksX9_command_11 0 rfl rfl)
theorem dX9_command_271 : decode cX9_command 271 = .ok (.invokedynamic 107, 5) := by decide +kernel
theorem dX9_command_276 : decode cX9_command 276 = .ok (.areturn, 1) := dk_176 (dk_at dksX9_command_11 7 rfl rfl)
theorem dX9_command_277 : decode cX9_command 277 = .ok (.aload_n 0, 1) := dk_42 (dk_at dksX9_command_11 8 rfl rfl)
theorem dX9_command_278 : decode cX9_command 278 = .ok (.iconst 1, 1) := dk_4 (dk_at dksX9_command_11 9 rfl rfl)
theorem dX9_command_279 : decode cX9_command 279 = .ok (.invokevirtual 89, 3) := dk_182 0 89 (dk_at dksX9_command_11 10 rfl rfl)
theorem dX9_command_282 : decode cX9_command 282 = .ok (.istore 6, 2) := dk_54 6 (dk_at dksX9_command_11 13 rfl rfl)
theorem dX9_command_284 : decode cX9_command 284 = .ok (.aload_n 1, 1) := dk_43 (dk_at dksX9_command_11 15 rfl rfl)
theorem dX9_command_285 : decode cX9_command 285 = .ok (.ldc 110, 2) := dk_18 110 (dk_at dksX9_command_11 16 rfl rfl)
theorem dX9_command_287 : decode cX9_command 287 = .ok (.invokevirtual 81, 3) := dk_182 0 81 (dk_at dksX9_command_11 18 rfl rfl)
theorem dX9_command_290 : decode cX9_command 290 = .ok (.ifCond .eq 14, 3) := dk_153 0 14 (dk_at dksX9_command_11 21 rfl rfl)
theorem dX9_command_293 : decode cX9_command 293 = .ok (.iload_n 3, 1) := dk_29 (dk_at dksX9_command_12 0 rfl rfl)
theorem dX9_command_294 : decode cX9_command 294 = .ok (.iload 6, 2) := dk_21 6 (dk_at dksX9_command_12 1 rfl rfl)
theorem dX9_command_296 : decode cX9_command 296 = .ok (.invokedynamic 112, 5) := by decide +kernel
theorem dX9_command_301 : decode cX9_command 301 = .ok (.goto 11, 3) := dk_167 0 11 (dk_at dksX9_command_12 8 rfl rfl)
theorem dX9_command_304 : decode cX9_command 304 = .ok (.iload_n 3, 1) := dk_29 (dk_at dksX9_command_12 11 rfl rfl)
theorem dX9_command_305 : decode cX9_command 305 = .ok (.iload 6, 2) := dk_21 6 (dk_at dksX9_command_12 12 rfl rfl)
theorem dX9_command_307 : decode cX9_command 307 = .ok (.invokedynamic 115, 5) := by decide +kernel
theorem dX9_command_312 : decode cX9_command 312 = .ok (.areturn, 1) := dk_176 (dk_at dksX9_command_12 19 rfl rfl)
abbrev cX9_word : ByteArray := prog_10_method_5_code
def yX9_word : MethodName := ⟨RX9, "word", "()Ljava/lang/String;"⟩
def dkwX9_word_5 : List UInt8 := [16, 97, 16, 122, 182, 0, 46, 182, 0, 69, 182, 0, 59, 77, 167, 255, 133, 44, 4, 182, 0, 72, 176]
abbrev dktX9_word_5 : List UInt8 := dkwX9_word_5 ++ []
def dkwX9_word_4 : List UInt8 := [187, 0, 41, 89, 42, 180, 0, 13, 183, 0, 43, 191, 187, 0, 24, 89, 183, 0, 54, 44, 182, 0, 55, 42]
abbrev dktX9_word_4 : List UInt8 := dkwX9_word_4 ++ dktX9_word_5
def dkwX9_word_3 : List UInt8 := [182, 0, 69, 182, 0, 59, 182, 0, 63, 153, 0, 7, 4, 167, 0, 4, 3, 62, 29, 154, 0, 15]
abbrev dktX9_word_3 : List UInt8 := dkwX9_word_3 ++ dktX9_word_4
def dkwX9_word_2 : List UInt8 := [89, 183, 0, 54, 44, 182, 0, 55, 42, 180, 0, 1, 180, 0, 17, 42, 180, 0, 13, 182, 0, 29]
abbrev dktX9_word_2 : List UInt8 := dkwX9_word_2 ++ dktX9_word_3
def dkwX9_word_1 : List UInt8 := [182, 0, 59, 182, 0, 63, 154, 0, 103, 42, 16, 97, 16, 122, 182, 0, 37, 153, 0, 45, 43, 187, 0, 24]
abbrev dktX9_word_1 : List UInt8 := dkwX9_word_1 ++ dktX9_word_2
def dkwX9_word_0 : List UInt8 := [18, 50, 76, 18, 52, 77, 43, 187, 0, 24, 89, 183, 0, 54, 44, 182, 0, 55, 18, 52, 182, 0, 55]
abbrev dktX9_word_0 : List UInt8 := dkwX9_word_0 ++ dktX9_word_1
theorem dksX9_word_0 : cX9_word.data.toList.drop 0 = dktX9_word_0 := by decide +kernel
theorem dksX9_word_1 : cX9_word.data.toList.drop 23 = dktX9_word_1 := dk_seg dksX9_word_0 23 rfl rfl
theorem dksX9_word_2 : cX9_word.data.toList.drop 47 = dktX9_word_2 := dk_seg dksX9_word_1 24 rfl rfl
theorem dksX9_word_3 : cX9_word.data.toList.drop 69 = dktX9_word_3 := dk_seg dksX9_word_2 22 rfl rfl
theorem dksX9_word_4 : cX9_word.data.toList.drop 91 = dktX9_word_4 := dk_seg dksX9_word_3 22 rfl rfl
theorem dksX9_word_5 : cX9_word.data.toList.drop 115 = dktX9_word_5 := dk_seg dksX9_word_4 24 rfl rfl
theorem dX9_word_0 : decode cX9_word 0 = .ok (.ldc 50, 2) := dk_18 50 (dk_at dksX9_word_0 0 rfl rfl)
theorem dX9_word_2 : decode cX9_word 2 = .ok (.astore_n 1, 1) := dk_76 (dk_at dksX9_word_0 2 rfl rfl)
theorem dX9_word_3 : decode cX9_word 3 = .ok (.ldc 52, 2) := dk_18 52 (dk_at dksX9_word_0 3 rfl rfl)
theorem dX9_word_5 : decode cX9_word 5 = .ok (.astore_n 2, 1) := dk_77 (dk_at dksX9_word_0 5 rfl rfl)
theorem dX9_word_6 : decode cX9_word 6 = .ok (.aload_n 1, 1) := dk_43 (dk_at dksX9_word_0 6 rfl rfl)
theorem dX9_word_7 : decode cX9_word 7 = .ok (.new 24, 3) := dk_187 0 24 (dk_at dksX9_word_0 7 rfl rfl)
theorem dX9_word_10 : decode cX9_word 10 = .ok (.dup, 1) := dk_89 (dk_at dksX9_word_0 10 rfl rfl)
theorem dX9_word_11 : decode cX9_word 11 = .ok (.invokespecial 54, 3) := dk_183 0 54 (dk_at dksX9_word_0 11 rfl rfl)
theorem dX9_word_14 : decode cX9_word 14 = .ok (.aload_n 2, 1) := dk_44 (dk_at dksX9_word_0 14 rfl rfl)
theorem dX9_word_15 : decode cX9_word 15 = .ok (.invokevirtual 55, 3) := dk_182 0 55 (dk_at dksX9_word_0 15 rfl rfl)
theorem dX9_word_18 : decode cX9_word 18 = .ok (.ldc 52, 2) := dk_18 52 (dk_at dksX9_word_0 18 rfl rfl)
theorem dX9_word_20 : decode cX9_word 20 = .ok (.invokevirtual 55, 3) := dk_182 0 55 (dk_at dksX9_word_0 20 rfl rfl)
theorem dX9_word_23 : decode cX9_word 23 = .ok (.invokevirtual 59, 3) := dk_182 0 59 (dk_at dksX9_word_1 0 rfl rfl)
theorem dX9_word_26 : decode cX9_word 26 = .ok (.invokevirtual 63, 3) := dk_182 0 63 (dk_at dksX9_word_1 3 rfl rfl)
theorem dX9_word_29 : decode cX9_word 29 = .ok (.ifCond .ne 103, 3) := dk_154 0 103 (dk_at dksX9_word_1 6 rfl rfl)
theorem dX9_word_32 : decode cX9_word 32 = .ok (.aload_n 0, 1) := dk_42 (dk_at dksX9_word_1 9 rfl rfl)
theorem dX9_word_33 : decode cX9_word 33 = .ok (.bipush 97, 2) := dk_16 97 (dk_at dksX9_word_1 10 rfl rfl)
theorem dX9_word_35 : decode cX9_word 35 = .ok (.bipush 122, 2) := dk_16 122 (dk_at dksX9_word_1 12 rfl rfl)
theorem dX9_word_37 : decode cX9_word 37 = .ok (.invokevirtual 37, 3) := dk_182 0 37 (dk_at dksX9_word_1 14 rfl rfl)
theorem dX9_word_40 : decode cX9_word 40 = .ok (.ifCond .eq 45, 3) := dk_153 0 45 (dk_at dksX9_word_1 17 rfl rfl)
theorem dX9_word_43 : decode cX9_word 43 = .ok (.aload_n 1, 1) := dk_43 (dk_at dksX9_word_1 20 rfl rfl)
theorem dX9_word_44 : decode cX9_word 44 = .ok (.new 24, 3) := dk_187 0 24 (dk_at dksX9_word_1 21 rfl rfl)
theorem dX9_word_47 : decode cX9_word 47 = .ok (.dup, 1) := dk_89 (dk_at dksX9_word_2 0 rfl rfl)
theorem dX9_word_48 : decode cX9_word 48 = .ok (.invokespecial 54, 3) := dk_183 0 54 (dk_at dksX9_word_2 1 rfl rfl)
theorem dX9_word_51 : decode cX9_word 51 = .ok (.aload_n 2, 1) := dk_44 (dk_at dksX9_word_2 4 rfl rfl)
theorem dX9_word_52 : decode cX9_word 52 = .ok (.invokevirtual 55, 3) := dk_182 0 55 (dk_at dksX9_word_2 5 rfl rfl)
theorem dX9_word_55 : decode cX9_word 55 = .ok (.aload_n 0, 1) := dk_42 (dk_at dksX9_word_2 8 rfl rfl)
theorem dX9_word_56 : decode cX9_word 56 = .ok (.getfield 1, 3) := dk_180 0 1 (dk_at dksX9_word_2 9 rfl rfl)
theorem dX9_word_59 : decode cX9_word 59 = .ok (.getfield 17, 3) := dk_180 0 17 (dk_at dksX9_word_2 12 rfl rfl)
theorem dX9_word_62 : decode cX9_word 62 = .ok (.aload_n 0, 1) := dk_42 (dk_at dksX9_word_2 15 rfl rfl)
theorem dX9_word_63 : decode cX9_word 63 = .ok (.getfield 13, 3) := dk_180 0 13 (dk_at dksX9_word_2 16 rfl rfl)
theorem dX9_word_66 : decode cX9_word 66 = .ok (.invokevirtual 29, 3) := dk_182 0 29 (dk_at dksX9_word_2 19 rfl rfl)
theorem dX9_word_69 : decode cX9_word 69 = .ok (.invokevirtual 69, 3) := dk_182 0 69 (dk_at dksX9_word_3 0 rfl rfl)
theorem dX9_word_72 : decode cX9_word 72 = .ok (.invokevirtual 59, 3) := dk_182 0 59 (dk_at dksX9_word_3 3 rfl rfl)
theorem dX9_word_75 : decode cX9_word 75 = .ok (.invokevirtual 63, 3) := dk_182 0 63 (dk_at dksX9_word_3 6 rfl rfl)
theorem dX9_word_78 : decode cX9_word 78 = .ok (.ifCond .eq 7, 3) := dk_153 0 7 (dk_at dksX9_word_3 9 rfl rfl)
theorem dX9_word_81 : decode cX9_word 81 = .ok (.iconst 1, 1) := dk_4 (dk_at dksX9_word_3 12 rfl rfl)
theorem dX9_word_82 : decode cX9_word 82 = .ok (.goto 4, 3) := dk_167 0 4 (dk_at dksX9_word_3 13 rfl rfl)
theorem dX9_word_85 : decode cX9_word 85 = .ok (.iconst 0, 1) := dk_3 (dk_at dksX9_word_3 16 rfl rfl)
theorem dX9_word_86 : decode cX9_word 86 = .ok (.istore_n 3, 1) := dk_62 (dk_at dksX9_word_3 17 rfl rfl)
theorem dX9_word_87 : decode cX9_word 87 = .ok (.iload_n 3, 1) := dk_29 (dk_at dksX9_word_3 18 rfl rfl)
theorem dX9_word_88 : decode cX9_word 88 = .ok (.ifCond .ne 15, 3) := dk_154 0 15 (dk_at dksX9_word_3 19 rfl rfl)
theorem dX9_word_91 : decode cX9_word 91 = .ok (.new 41, 3) := dk_187 0 41 (dk_at dksX9_word_4 0 rfl rfl)
theorem dX9_word_94 : decode cX9_word 94 = .ok (.dup, 1) := dk_89 (dk_at dksX9_word_4 3 rfl rfl)
theorem dX9_word_95 : decode cX9_word 95 = .ok (.aload_n 0, 1) := dk_42 (dk_at dksX9_word_4 4 rfl rfl)
theorem dX9_word_96 : decode cX9_word 96 = .ok (.getfield 13, 3) := dk_180 0 13 (dk_at dksX9_word_4 5 rfl rfl)
theorem dX9_word_99 : decode cX9_word 99 = .ok (.invokespecial 43, 3) := dk_183 0 43 (dk_at dksX9_word_4 8 rfl rfl)
theorem dX9_word_102 : decode cX9_word 102 = .ok (.athrow, 1) := dk_191 (dk_at dksX9_word_4 11 rfl rfl)
theorem dX9_word_103 : decode cX9_word 103 = .ok (.new 24, 3) := dk_187 0 24 (dk_at dksX9_word_4 12 rfl rfl)
theorem dX9_word_106 : decode cX9_word 106 = .ok (.dup, 1) := dk_89 (dk_at dksX9_word_4 15 rfl rfl)
theorem dX9_word_107 : decode cX9_word 107 = .ok (.invokespecial 54, 3) := dk_183 0 54 (dk_at dksX9_word_4 16 rfl rfl)
theorem dX9_word_110 : decode cX9_word 110 = .ok (.aload_n 2, 1) := dk_44 (dk_at dksX9_word_4 19 rfl rfl)
theorem dX9_word_111 : decode cX9_word 111 = .ok (.invokevirtual 55, 3) := dk_182 0 55 (dk_at dksX9_word_4 20 rfl rfl)
theorem dX9_word_114 : decode cX9_word 114 = .ok (.aload_n 0, 1) := dk_42 (dk_at dksX9_word_4 23 rfl rfl)
theorem dX9_word_115 : decode cX9_word 115 = .ok (.bipush 97, 2) := dk_16 97 (dk_at dksX9_word_5 0 rfl rfl)
theorem dX9_word_117 : decode cX9_word 117 = .ok (.bipush 122, 2) := dk_16 122 (dk_at dksX9_word_5 2 rfl rfl)
theorem dX9_word_119 : decode cX9_word 119 = .ok (.invokevirtual 46, 3) := dk_182 0 46 (dk_at dksX9_word_5 4 rfl rfl)
theorem dX9_word_122 : decode cX9_word 122 = .ok (.invokevirtual 69, 3) := dk_182 0 69 (dk_at dksX9_word_5 7 rfl rfl)
theorem dX9_word_125 : decode cX9_word 125 = .ok (.invokevirtual 59, 3) := dk_182 0 59 (dk_at dksX9_word_5 10 rfl rfl)
theorem dX9_word_128 : decode cX9_word 128 = .ok (.astore_n 2, 1) := dk_77 (dk_at dksX9_word_5 13 rfl rfl)
theorem dX9_word_129 : decode cX9_word 129 = .ok (.goto (-123), 3) := dk_167 255 133 (dk_at dksX9_word_5 14 rfl rfl)
theorem dX9_word_132 : decode cX9_word 132 = .ok (.aload_n 2, 1) := dk_44 (dk_at dksX9_word_5 17 rfl rfl)
theorem dX9_word_133 : decode cX9_word 133 = .ok (.iconst 1, 1) := dk_4 (dk_at dksX9_word_5 18 rfl rfl)
theorem dX9_word_134 : decode cX9_word 134 = .ok (.invokevirtual 72, 3) := dk_182 0 72 (dk_at dksX9_word_5 19 rfl rfl)
theorem dX9_word_137 : decode cX9_word 137 = .ok (.areturn, 1) := dk_176 (dk_at dksX9_word_5 22 rfl rfl)
abbrev cX9_isAt : ByteArray := prog_10_method_2_code
def yX9_isAt : MethodName := ⟨RX9, "isAt", "(CC)Z"⟩
def dkwX9_isAt_1 : List UInt8 := [42, 180, 0, 13, 182, 0, 29, 27, 28, 184, 0, 33, 153, 0, 7, 4, 167, 0, 4, 3, 172]
abbrev dktX9_isAt_1 : List UInt8 := dkwX9_isAt_1 ++ []
def dkwX9_isAt_0 : List UInt8 := [42, 180, 0, 13, 42, 180, 0, 1, 180, 0, 17, 182, 0, 23, 162, 0, 29, 42, 180, 0, 1, 180, 0, 17]
abbrev dktX9_isAt_0 : List UInt8 := dkwX9_isAt_0 ++ dktX9_isAt_1
theorem dksX9_isAt_0 : cX9_isAt.data.toList.drop 0 = dktX9_isAt_0 := by decide +kernel
theorem dksX9_isAt_1 : cX9_isAt.data.toList.drop 24 = dktX9_isAt_1 := dk_seg dksX9_isAt_0 24 rfl rfl
theorem dX9_isAt_0 : decode cX9_isAt 0 = .ok (.aload_n 0, 1) := dk_42 (dk_at dksX9_isAt_0 0 rfl rfl)
theorem dX9_isAt_1 : decode cX9_isAt 1 = .ok (.getfield 13, 3) := dk_180 0 13 (dk_at dksX9_isAt_0 1 rfl rfl)
theorem dX9_isAt_4 : decode cX9_isAt 4 = .ok (.aload_n 0, 1) := dk_42 (dk_at dksX9_isAt_0 4 rfl rfl)
theorem dX9_isAt_5 : decode cX9_isAt 5 = .ok (.getfield 1, 3) := dk_180 0 1 (dk_at dksX9_isAt_0 5 rfl rfl)
theorem dX9_isAt_8 : decode cX9_isAt 8 = .ok (.getfield 17, 3) := dk_180 0 17 (dk_at dksX9_isAt_0 8 rfl rfl)
theorem dX9_isAt_11 : decode cX9_isAt 11 = .ok (.invokevirtual 23, 3) := dk_182 0 23 (dk_at dksX9_isAt_0 11 rfl rfl)
theorem dX9_isAt_14 : decode cX9_isAt 14 = .ok (.if_icmp .ge 29, 3) := dk_162 0 29 (dk_at dksX9_isAt_0 14 rfl rfl)
theorem dX9_isAt_17 : decode cX9_isAt 17 = .ok (.aload_n 0, 1) := dk_42 (dk_at dksX9_isAt_0 17 rfl rfl)
theorem dX9_isAt_18 : decode cX9_isAt 18 = .ok (.getfield 1, 3) := dk_180 0 1 (dk_at dksX9_isAt_0 18 rfl rfl)
theorem dX9_isAt_21 : decode cX9_isAt 21 = .ok (.getfield 17, 3) := dk_180 0 17 (dk_at dksX9_isAt_0 21 rfl rfl)
theorem dX9_isAt_24 : decode cX9_isAt 24 = .ok (.aload_n 0, 1) := dk_42 (dk_at dksX9_isAt_1 0 rfl rfl)
theorem dX9_isAt_25 : decode cX9_isAt 25 = .ok (.getfield 13, 3) := dk_180 0 13 (dk_at dksX9_isAt_1 1 rfl rfl)
theorem dX9_isAt_28 : decode cX9_isAt 28 = .ok (.invokevirtual 29, 3) := dk_182 0 29 (dk_at dksX9_isAt_1 4 rfl rfl)
theorem dX9_isAt_31 : decode cX9_isAt 31 = .ok (.iload_n 1, 1) := dk_27 (dk_at dksX9_isAt_1 7 rfl rfl)
theorem dX9_isAt_32 : decode cX9_isAt 32 = .ok (.iload_n 2, 1) := dk_28 (dk_at dksX9_isAt_1 8 rfl rfl)
theorem dX9_isAt_33 : decode cX9_isAt 33 = .ok (.invokestatic 33, 3) := dk_184 0 33 (dk_at dksX9_isAt_1 9 rfl rfl)
theorem dX9_isAt_36 : decode cX9_isAt 36 = .ok (.ifCond .eq 7, 3) := dk_153 0 7 (dk_at dksX9_isAt_1 12 rfl rfl)
theorem dX9_isAt_39 : decode cX9_isAt 39 = .ok (.iconst 1, 1) := dk_4 (dk_at dksX9_isAt_1 15 rfl rfl)
theorem dX9_isAt_40 : decode cX9_isAt 40 = .ok (.goto 4, 3) := dk_167 0 4 (dk_at dksX9_isAt_1 16 rfl rfl)
theorem dX9_isAt_43 : decode cX9_isAt 43 = .ok (.iconst 0, 1) := dk_3 (dk_at dksX9_isAt_1 19 rfl rfl)
theorem dX9_isAt_44 : decode cX9_isAt 44 = .ok (.ireturn, 1) := dk_172 (dk_at dksX9_isAt_1 20 rfl rfl)
abbrev cX9_take : ByteArray := prog_10_method_3_code
def yX9_take : MethodName := ⟨RX9, "take", "(CC)C"⟩
def dkwX9_take_2 : List UInt8 := [172]
abbrev dktX9_take_2 : List UInt8 := dkwX9_take_2 ++ []
def dkwX9_take_1 : List UInt8 := [180, 0, 13, 4, 96, 181, 0, 13, 42, 180, 0, 1, 180, 0, 17, 42, 180, 0, 13, 4, 100, 182, 0, 29]
abbrev dktX9_take_1 : List UInt8 := dkwX9_take_1 ++ dktX9_take_2
def dkwX9_take_0 : List UInt8 := [42, 27, 28, 182, 0, 37, 154, 0, 15, 187, 0, 41, 89, 42, 180, 0, 13, 183, 0, 43, 191, 42, 89]
abbrev dktX9_take_0 : List UInt8 := dkwX9_take_0 ++ dktX9_take_1
theorem dksX9_take_0 : cX9_take.data.toList.drop 0 = dktX9_take_0 := by decide +kernel
theorem dksX9_take_1 : cX9_take.data.toList.drop 23 = dktX9_take_1 := dk_seg dksX9_take_0 23 rfl rfl
theorem dksX9_take_2 : cX9_take.data.toList.drop 47 = dktX9_take_2 := dk_seg dksX9_take_1 24 rfl rfl
theorem dX9_take_0 : decode cX9_take 0 = .ok (.aload_n 0, 1) := dk_42 (dk_at dksX9_take_0 0 rfl rfl)
theorem dX9_take_1 : decode cX9_take 1 = .ok (.iload_n 1, 1) := dk_27 (dk_at dksX9_take_0 1 rfl rfl)
theorem dX9_take_2 : decode cX9_take 2 = .ok (.iload_n 2, 1) := dk_28 (dk_at dksX9_take_0 2 rfl rfl)
theorem dX9_take_3 : decode cX9_take 3 = .ok (.invokevirtual 37, 3) := dk_182 0 37 (dk_at dksX9_take_0 3 rfl rfl)
theorem dX9_take_6 : decode cX9_take 6 = .ok (.ifCond .ne 15, 3) := dk_154 0 15 (dk_at dksX9_take_0 6 rfl rfl)
theorem dX9_take_9 : decode cX9_take 9 = .ok (.new 41, 3) := dk_187 0 41 (dk_at dksX9_take_0 9 rfl rfl)
theorem dX9_take_12 : decode cX9_take 12 = .ok (.dup, 1) := dk_89 (dk_at dksX9_take_0 12 rfl rfl)
theorem dX9_take_13 : decode cX9_take 13 = .ok (.aload_n 0, 1) := dk_42 (dk_at dksX9_take_0 13 rfl rfl)
theorem dX9_take_14 : decode cX9_take 14 = .ok (.getfield 13, 3) := dk_180 0 13 (dk_at dksX9_take_0 14 rfl rfl)
theorem dX9_take_17 : decode cX9_take 17 = .ok (.invokespecial 43, 3) := dk_183 0 43 (dk_at dksX9_take_0 17 rfl rfl)
theorem dX9_take_20 : decode cX9_take 20 = .ok (.athrow, 1) := dk_191 (dk_at dksX9_take_0 20 rfl rfl)
theorem dX9_take_21 : decode cX9_take 21 = .ok (.aload_n 0, 1) := dk_42 (dk_at dksX9_take_0 21 rfl rfl)
theorem dX9_take_22 : decode cX9_take 22 = .ok (.dup, 1) := dk_89 (dk_at dksX9_take_0 22 rfl rfl)
theorem dX9_take_23 : decode cX9_take 23 = .ok (.getfield 13, 3) := dk_180 0 13 (dk_at dksX9_take_1 0 rfl rfl)
theorem dX9_take_26 : decode cX9_take 26 = .ok (.iconst 1, 1) := dk_4 (dk_at dksX9_take_1 3 rfl rfl)
theorem dX9_take_27 : decode cX9_take 27 = .ok (.iadd, 1) := dk_96 (dk_at dksX9_take_1 4 rfl rfl)
theorem dX9_take_28 : decode cX9_take 28 = .ok (.putfield 13, 3) := dk_181 0 13 (dk_at dksX9_take_1 5 rfl rfl)
theorem dX9_take_31 : decode cX9_take 31 = .ok (.aload_n 0, 1) := dk_42 (dk_at dksX9_take_1 8 rfl rfl)
theorem dX9_take_32 : decode cX9_take 32 = .ok (.getfield 1, 3) := dk_180 0 1 (dk_at dksX9_take_1 9 rfl rfl)
theorem dX9_take_35 : decode cX9_take 35 = .ok (.getfield 17, 3) := dk_180 0 17 (dk_at dksX9_take_1 12 rfl rfl)
theorem dX9_take_38 : decode cX9_take 38 = .ok (.aload_n 0, 1) := dk_42 (dk_at dksX9_take_1 15 rfl rfl)
theorem dX9_take_39 : decode cX9_take 39 = .ok (.getfield 13, 3) := dk_180 0 13 (dk_at dksX9_take_1 16 rfl rfl)
theorem dX9_take_42 : decode cX9_take 42 = .ok (.iconst 1, 1) := dk_4 (dk_at dksX9_take_1 19 rfl rfl)
theorem dX9_take_43 : decode cX9_take 43 = .ok (.isub, 1) := dk_100 (dk_at dksX9_take_1 20 rfl rfl)
theorem dX9_take_44 : decode cX9_take 44 = .ok (.invokevirtual 29, 3) := dk_182 0 29 (dk_at dksX9_take_1 21 rfl rfl)
theorem dX9_take_47 : decode cX9_take 47 = .ok (.ireturn, 1) := dk_172 (dk_at dksX9_take_2 0 rfl rfl)
abbrev cX9_number : ByteArray := prog_10_method_4_code
def yX9_number : MethodName := ⟨RX9, "number", "(I)I"⟩
def dkwX9_number_2 : List UInt8 := [16, 57, 182, 0, 46, 96, 16, 48, 100, 62, 132, 4, 1, 167, 255, 219, 29, 172]
abbrev dktX9_number_2 : List UInt8 := dkwX9_number_2 ++ []
def dkwX9_number_1 : List UInt8 := [21, 4, 27, 162, 0, 37, 42, 16, 48, 16, 57, 182, 0, 37, 153, 0, 26, 16, 10, 29, 104, 42, 16, 48]
abbrev dktX9_number_1 : List UInt8 := dkwX9_number_1 ++ dktX9_number_2
def dkwX9_number_0 : List UInt8 := [42, 16, 32, 16, 32, 182, 0, 46, 61, 42, 16, 48, 16, 57, 182, 0, 46, 16, 48, 100, 62, 4, 54, 4]
abbrev dktX9_number_0 : List UInt8 := dkwX9_number_0 ++ dktX9_number_1
theorem dksX9_number_0 : cX9_number.data.toList.drop 0 = dktX9_number_0 := by decide +kernel
theorem dksX9_number_1 : cX9_number.data.toList.drop 24 = dktX9_number_1 := dk_seg dksX9_number_0 24 rfl rfl
theorem dksX9_number_2 : cX9_number.data.toList.drop 48 = dktX9_number_2 := dk_seg dksX9_number_1 24 rfl rfl
theorem dX9_number_0 : decode cX9_number 0 = .ok (.aload_n 0, 1) := dk_42 (dk_at dksX9_number_0 0 rfl rfl)
theorem dX9_number_1 : decode cX9_number 1 = .ok (.bipush 32, 2) := dk_16 32 (dk_at dksX9_number_0 1 rfl rfl)
theorem dX9_number_3 : decode cX9_number 3 = .ok (.bipush 32, 2) := dk_16 32 (dk_at dksX9_number_0 3 rfl rfl)
theorem dX9_number_5 : decode cX9_number 5 = .ok (.invokevirtual 46, 3) := dk_182 0 46 (dk_at dksX9_number_0 5 rfl rfl)
theorem dX9_number_8 : decode cX9_number 8 = .ok (.istore_n 2, 1) := dk_61 (dk_at dksX9_number_0 8 rfl rfl)
theorem dX9_number_9 : decode cX9_number 9 = .ok (.aload_n 0, 1) := dk_42 (dk_at dksX9_number_0 9 rfl rfl)
theorem dX9_number_10 : decode cX9_number 10 = .ok (.bipush 48, 2) := dk_16 48 (dk_at dksX9_number_0 10 rfl rfl)
theorem dX9_number_12 : decode cX9_number 12 = .ok (.bipush 57, 2) := dk_16 57 (dk_at dksX9_number_0 12 rfl rfl)
theorem dX9_number_14 : decode cX9_number 14 = .ok (.invokevirtual 46, 3) := dk_182 0 46 (dk_at dksX9_number_0 14 rfl rfl)
theorem dX9_number_17 : decode cX9_number 17 = .ok (.bipush 48, 2) := dk_16 48 (dk_at dksX9_number_0 17 rfl rfl)
theorem dX9_number_19 : decode cX9_number 19 = .ok (.isub, 1) := dk_100 (dk_at dksX9_number_0 19 rfl rfl)
theorem dX9_number_20 : decode cX9_number 20 = .ok (.istore_n 3, 1) := dk_62 (dk_at dksX9_number_0 20 rfl rfl)
theorem dX9_number_21 : decode cX9_number 21 = .ok (.iconst 1, 1) := dk_4 (dk_at dksX9_number_0 21 rfl rfl)
theorem dX9_number_22 : decode cX9_number 22 = .ok (.istore 4, 2) := dk_54 4 (dk_at dksX9_number_0 22 rfl rfl)
theorem dX9_number_24 : decode cX9_number 24 = .ok (.iload 4, 2) := dk_21 4 (dk_at dksX9_number_1 0 rfl rfl)
theorem dX9_number_26 : decode cX9_number 26 = .ok (.iload_n 1, 1) := dk_27 (dk_at dksX9_number_1 2 rfl rfl)
theorem dX9_number_27 : decode cX9_number 27 = .ok (.if_icmp .ge 37, 3) := dk_162 0 37 (dk_at dksX9_number_1 3 rfl rfl)
theorem dX9_number_30 : decode cX9_number 30 = .ok (.aload_n 0, 1) := dk_42 (dk_at dksX9_number_1 6 rfl rfl)
theorem dX9_number_31 : decode cX9_number 31 = .ok (.bipush 48, 2) := dk_16 48 (dk_at dksX9_number_1 7 rfl rfl)
theorem dX9_number_33 : decode cX9_number 33 = .ok (.bipush 57, 2) := dk_16 57 (dk_at dksX9_number_1 9 rfl rfl)
theorem dX9_number_35 : decode cX9_number 35 = .ok (.invokevirtual 37, 3) := dk_182 0 37 (dk_at dksX9_number_1 11 rfl rfl)
theorem dX9_number_38 : decode cX9_number 38 = .ok (.ifCond .eq 26, 3) := dk_153 0 26 (dk_at dksX9_number_1 14 rfl rfl)
theorem dX9_number_41 : decode cX9_number 41 = .ok (.bipush 10, 2) := dk_16 10 (dk_at dksX9_number_1 17 rfl rfl)
theorem dX9_number_43 : decode cX9_number 43 = .ok (.iload_n 3, 1) := dk_29 (dk_at dksX9_number_1 19 rfl rfl)
theorem dX9_number_44 : decode cX9_number 44 = .ok (.imul, 1) := dk_104 (dk_at dksX9_number_1 20 rfl rfl)
theorem dX9_number_45 : decode cX9_number 45 = .ok (.aload_n 0, 1) := dk_42 (dk_at dksX9_number_1 21 rfl rfl)
theorem dX9_number_46 : decode cX9_number 46 = .ok (.bipush 48, 2) := dk_16 48 (dk_at dksX9_number_1 22 rfl rfl)
theorem dX9_number_48 : decode cX9_number 48 = .ok (.bipush 57, 2) := dk_16 57 (dk_at dksX9_number_2 0 rfl rfl)
theorem dX9_number_50 : decode cX9_number 50 = .ok (.invokevirtual 46, 3) := dk_182 0 46 (dk_at dksX9_number_2 2 rfl rfl)
theorem dX9_number_53 : decode cX9_number 53 = .ok (.iadd, 1) := dk_96 (dk_at dksX9_number_2 5 rfl rfl)
theorem dX9_number_54 : decode cX9_number 54 = .ok (.bipush 48, 2) := dk_16 48 (dk_at dksX9_number_2 6 rfl rfl)
theorem dX9_number_56 : decode cX9_number 56 = .ok (.isub, 1) := dk_100 (dk_at dksX9_number_2 8 rfl rfl)
theorem dX9_number_57 : decode cX9_number 57 = .ok (.istore_n 3, 1) := dk_62 (dk_at dksX9_number_2 9 rfl rfl)
theorem dX9_number_58 : decode cX9_number 58 = .ok (.iinc 4 1, 3) := dk_132 4 1 (dk_at dksX9_number_2 10 rfl rfl)
theorem dX9_number_61 : decode cX9_number 61 = .ok (.goto (-37), 3) := dk_167 255 219 (dk_at dksX9_number_2 13 rfl rfl)
theorem dX9_number_64 : decode cX9_number 64 = .ok (.iload_n 3, 1) := dk_29 (dk_at dksX9_number_2 16 rfl rfl)
theorem dX9_number_65 : decode cX9_number 65 = .ok (.ireturn, 1) := dk_172 (dk_at dksX9_number_2 17 rfl rfl)
abbrev cX9_lambda_command_0 : ByteArray := prog_10_method_14_code
def yX9_lambda_command_0 : MethodName := ⟨RX9, "lambda$command$0", "(ILPeacockLawns$Garden;)I"⟩
def dkwX9_lambda_command_0_0 : List UInt8 := [43, 26, 182, 0, 146, 172]
abbrev dktX9_lambda_command_0_0 : List UInt8 := dkwX9_lambda_command_0_0 ++ []
theorem dksX9_lambda_command_0_0 : cX9_lambda_command_0.data.toList.drop 0 = dktX9_lambda_command_0_0 := by decide +kernel
theorem dX9_lambda_command_0_0 : decode cX9_lambda_command_0 0 = .ok (.aload_n 1, 1) := dk_43 (dk_at dksX9_lambda_command_0_0 0 rfl rfl)
theorem dX9_lambda_command_0_1 : decode cX9_lambda_command_0 1 = .ok (.iload_n 0, 1) := dk_26 (dk_at dksX9_lambda_command_0_0 1 rfl rfl)
theorem dX9_lambda_command_0_2 : decode cX9_lambda_command_0 2 = .ok (.invokevirtual 146, 3) := dk_182 0 146 (dk_at dksX9_lambda_command_0_0 2 rfl rfl)
theorem dX9_lambda_command_0_5 : decode cX9_lambda_command_0 5 = .ok (.ireturn, 1) := dk_172 (dk_at dksX9_lambda_command_0_0 5 rfl rfl)
abbrev cX9_lambda_command_1 : ByteArray := prog_10_method_13_code
def yX9_lambda_command_1 : MethodName := ⟨RX9, "lambda$command$1", "(ILPeacockLawns$Garden;)I"⟩
def dkwX9_lambda_command_1_0 : List UInt8 := [43, 26, 182, 0, 144, 172]
abbrev dktX9_lambda_command_1_0 : List UInt8 := dkwX9_lambda_command_1_0 ++ []
theorem dksX9_lambda_command_1_0 : cX9_lambda_command_1.data.toList.drop 0 = dktX9_lambda_command_1_0 := by decide +kernel
theorem dX9_lambda_command_1_0 : decode cX9_lambda_command_1 0 = .ok (.aload_n 1, 1) := dk_43 (dk_at dksX9_lambda_command_1_0 0 rfl rfl)
theorem dX9_lambda_command_1_1 : decode cX9_lambda_command_1 1 = .ok (.iload_n 0, 1) := dk_26 (dk_at dksX9_lambda_command_1_0 1 rfl rfl)
theorem dX9_lambda_command_1_2 : decode cX9_lambda_command_1 2 = .ok (.invokevirtual 144, 3) := dk_182 0 144 (dk_at dksX9_lambda_command_1_0 2 rfl rfl)
theorem dX9_lambda_command_1_5 : decode cX9_lambda_command_1 5 = .ok (.ireturn, 1) := dk_172 (dk_at dksX9_lambda_command_1_0 5 rfl rfl)
abbrev cX9_lambda_command_2 : ByteArray := prog_10_method_12_code
def yX9_lambda_command_2 : MethodName := ⟨RX9, "lambda$command$2", "(ILPeacockLawns$Garden;)I"⟩
def dkwX9_lambda_command_2_0 : List UInt8 := [43, 26, 182, 0, 142, 172]
abbrev dktX9_lambda_command_2_0 : List UInt8 := dkwX9_lambda_command_2_0 ++ []
theorem dksX9_lambda_command_2_0 : cX9_lambda_command_2.data.toList.drop 0 = dktX9_lambda_command_2_0 := by decide +kernel
theorem dX9_lambda_command_2_0 : decode cX9_lambda_command_2 0 = .ok (.aload_n 1, 1) := dk_43 (dk_at dksX9_lambda_command_2_0 0 rfl rfl)
theorem dX9_lambda_command_2_1 : decode cX9_lambda_command_2 1 = .ok (.iload_n 0, 1) := dk_26 (dk_at dksX9_lambda_command_2_0 1 rfl rfl)
theorem dX9_lambda_command_2_2 : decode cX9_lambda_command_2 2 = .ok (.invokevirtual 142, 3) := dk_182 0 142 (dk_at dksX9_lambda_command_2_0 2 rfl rfl)
theorem dX9_lambda_command_2_5 : decode cX9_lambda_command_2 5 = .ok (.ireturn, 1) := dk_172 (dk_at dksX9_lambda_command_2_0 5 rfl rfl)
abbrev cX9_lambda_command_3 : ByteArray := prog_10_method_11_code
def yX9_lambda_command_3 : MethodName := ⟨RX9, "lambda$command$3", "(ILPeacockLawns$Garden;)I"⟩
def dkwX9_lambda_command_3_0 : List UInt8 := [43, 26, 182, 0, 139, 172]
abbrev dktX9_lambda_command_3_0 : List UInt8 := dkwX9_lambda_command_3_0 ++ []
theorem dksX9_lambda_command_3_0 : cX9_lambda_command_3.data.toList.drop 0 = dktX9_lambda_command_3_0 := by decide +kernel
theorem dX9_lambda_command_3_0 : decode cX9_lambda_command_3 0 = .ok (.aload_n 1, 1) := dk_43 (dk_at dksX9_lambda_command_3_0 0 rfl rfl)
theorem dX9_lambda_command_3_1 : decode cX9_lambda_command_3 1 = .ok (.iload_n 0, 1) := dk_26 (dk_at dksX9_lambda_command_3_0 1 rfl rfl)
theorem dX9_lambda_command_3_2 : decode cX9_lambda_command_3 2 = .ok (.invokevirtual 139, 3) := dk_182 0 139 (dk_at dksX9_lambda_command_3_0 2 rfl rfl)
theorem dX9_lambda_command_3_5 : decode cX9_lambda_command_3 5 = .ok (.ireturn, 1) := dk_172 (dk_at dksX9_lambda_command_3_0 5 rfl rfl)
abbrev cX9_lambda_command_4 : ByteArray := prog_10_method_10_code
def yX9_lambda_command_4 : MethodName := ⟨RX9, "lambda$command$4", "(IIILPeacockLawns$Garden;)I"⟩
def dkwX9_lambda_command_4_0 : List UInt8 := [45, 26, 27, 28, 182, 0, 136, 172]
abbrev dktX9_lambda_command_4_0 : List UInt8 := dkwX9_lambda_command_4_0 ++ []
theorem dksX9_lambda_command_4_0 : cX9_lambda_command_4.data.toList.drop 0 = dktX9_lambda_command_4_0 := by decide +kernel
theorem dX9_lambda_command_4_0 : decode cX9_lambda_command_4 0 = .ok (.aload_n 3, 1) := dk_45 (dk_at dksX9_lambda_command_4_0 0 rfl rfl)
theorem dX9_lambda_command_4_1 : decode cX9_lambda_command_4 1 = .ok (.iload_n 0, 1) := dk_26 (dk_at dksX9_lambda_command_4_0 1 rfl rfl)
theorem dX9_lambda_command_4_2 : decode cX9_lambda_command_4 2 = .ok (.iload_n 1, 1) := dk_27 (dk_at dksX9_lambda_command_4_0 2 rfl rfl)
theorem dX9_lambda_command_4_3 : decode cX9_lambda_command_4 3 = .ok (.iload_n 2, 1) := dk_28 (dk_at dksX9_lambda_command_4_0 3 rfl rfl)
theorem dX9_lambda_command_4_4 : decode cX9_lambda_command_4 4 = .ok (.invokevirtual 136, 3) := dk_182 0 136 (dk_at dksX9_lambda_command_4_0 4 rfl rfl)
theorem dX9_lambda_command_4_7 : decode cX9_lambda_command_4 7 = .ok (.ireturn, 1) := dk_172 (dk_at dksX9_lambda_command_4_0 7 rfl rfl)
abbrev cX9_lambda_command_5 : ByteArray := prog_10_method_9_code
def yX9_lambda_command_5 : MethodName := ⟨RX9, "lambda$command$5", "(IILPeacockLawns$Garden;)I"⟩
def dkwX9_lambda_command_5_0 : List UInt8 := [44, 26, 27, 182, 0, 134, 172]
abbrev dktX9_lambda_command_5_0 : List UInt8 := dkwX9_lambda_command_5_0 ++ []
theorem dksX9_lambda_command_5_0 : cX9_lambda_command_5.data.toList.drop 0 = dktX9_lambda_command_5_0 := by decide +kernel
theorem dX9_lambda_command_5_0 : decode cX9_lambda_command_5 0 = .ok (.aload_n 2, 1) := dk_44 (dk_at dksX9_lambda_command_5_0 0 rfl rfl)
theorem dX9_lambda_command_5_1 : decode cX9_lambda_command_5 1 = .ok (.iload_n 0, 1) := dk_26 (dk_at dksX9_lambda_command_5_0 1 rfl rfl)
theorem dX9_lambda_command_5_2 : decode cX9_lambda_command_5 2 = .ok (.iload_n 1, 1) := dk_27 (dk_at dksX9_lambda_command_5_0 2 rfl rfl)
theorem dX9_lambda_command_5_3 : decode cX9_lambda_command_5 3 = .ok (.invokevirtual 134, 3) := dk_182 0 134 (dk_at dksX9_lambda_command_5_0 3 rfl rfl)
theorem dX9_lambda_command_5_6 : decode cX9_lambda_command_5 6 = .ok (.ireturn, 1) := dk_172 (dk_at dksX9_lambda_command_5_0 6 rfl rfl)
abbrev cX9_lambda_command_6 : ByteArray := prog_10_method_8_code
def yX9_lambda_command_6 : MethodName := ⟨RX9, "lambda$command$6", "(IILPeacockLawns$Garden;)I"⟩
def dkwX9_lambda_command_6_0 : List UInt8 := [44, 26, 27, 182, 0, 128, 172]
abbrev dktX9_lambda_command_6_0 : List UInt8 := dkwX9_lambda_command_6_0 ++ []
theorem dksX9_lambda_command_6_0 : cX9_lambda_command_6.data.toList.drop 0 = dktX9_lambda_command_6_0 := by decide +kernel
theorem dX9_lambda_command_6_0 : decode cX9_lambda_command_6 0 = .ok (.aload_n 2, 1) := dk_44 (dk_at dksX9_lambda_command_6_0 0 rfl rfl)
theorem dX9_lambda_command_6_1 : decode cX9_lambda_command_6 1 = .ok (.iload_n 0, 1) := dk_26 (dk_at dksX9_lambda_command_6_0 1 rfl rfl)
theorem dX9_lambda_command_6_2 : decode cX9_lambda_command_6 2 = .ok (.iload_n 1, 1) := dk_27 (dk_at dksX9_lambda_command_6_0 2 rfl rfl)
theorem dX9_lambda_command_6_3 : decode cX9_lambda_command_6 3 = .ok (.invokevirtual 128, 3) := dk_182 0 128 (dk_at dksX9_lambda_command_6_0 3 rfl rfl)
theorem dX9_lambda_command_6_6 : decode cX9_lambda_command_6 6 = .ok (.ireturn, 1) := dk_172 (dk_at dksX9_lambda_command_6_0 6 rfl rfl)
theorem q117 : (Jvm.Cond.initialized "PeacockLawns$Parser") ∈ lw_all := lw_g (lw_at lw_m1 38 rfl) rfl
theorem q282 : (Jvm.Cond.fieldLinkNest "PeacockLawns$Parser" (17 : Nat) "PeacockLawns" "input" "Ljava/lang/StringBuilder;" "PeacockLawns") ∈ lw_tbl := lw_at lw_m1 203 rfl
theorem q759 : (Jvm.Cond.selects "PeacockLawns$Parser" ({ cls := "java/lang/Object", name := "getClass", desc := "()Ljava/lang/Class;" } : Jvm.MethodName) ({ cls := "java/lang/Object", name := "getClass", desc := "()Ljava/lang/Class;" } : Jvm.MethodName)) ∈ lw_all := lw_g (lw_at lw_m3 200 rfl) rfl
theorem q1721 : (Jvm.Cond.instantiable "PeacockLawns$Parser" (2 : Nat)) ∈ lw_all := lw_g (lw_at lw_m7 202 rfl) rfl
theorem q1723 : (Jvm.Cond.instanceMethod ({ cls := "PeacockLawns$Parser", name := "<init>", desc := "(LPeacockLawns;)V" } : Jvm.MethodName)) ∈ lw_all := lw_g (lw_at lw_m7 204 rfl) rfl
theorem q1724 : (Jvm.Cond.code ({ cls := "PeacockLawns$Parser", name := "<init>", desc := "(LPeacockLawns;)V" } : Jvm.MethodName) prog_10_method_1_code (2 : Nat) (Option.none : Option Jvm.ClassFile.FieldType)) ∈ lw_all := lw_g (lw_at lw_m7 205 rfl) rfl
theorem q1725 : (Jvm.Cond.methodLink "PeacockLawns$Parser" (7 : Nat) ({ cls := "java/lang/Object", name := "<init>", desc := "()V" } : Jvm.MethodName)) ∈ lw_all := lw_g (lw_at lw_m7 206 rfl) rfl
theorem q1726 : (Jvm.Cond.fieldLink "PeacockLawns$Parser" (13 : Nat) "PeacockLawns$Parser" "position" "I") ∈ lw_all := lw_g (lw_at lw_m7 207 rfl) rfl
theorem q1727 : (Jvm.Cond.fieldLink "PeacockLawns$Parser" (1 : Nat) "PeacockLawns$Parser" "this$0" "LPeacockLawns;") ∈ lw_all := lw_g (lw_at lw_m7 208 rfl) rfl
theorem q1728 : (Jvm.Cond.lays "PeacockLawns$Parser" "PeacockLawns$Parser" "position" "I") ∈ lw_all := lw_g (lw_at lw_m7 209 rfl) rfl
theorem q1729 : (Jvm.Cond.soleField "PeacockLawns$Parser" "position") ∈ lw_all := lw_g (lw_at lw_m7 210 rfl) rfl
theorem q1730 : (Jvm.Cond.laysFinal "PeacockLawns$Parser" "PeacockLawns$Parser" "this$0" "LPeacockLawns;") ∈ lw_all := lw_g (lw_at lw_m7 211 rfl) rfl
theorem q1731 : (Jvm.Cond.soleField "PeacockLawns$Parser" "this$0") ∈ lw_all := lw_g (lw_at lw_m7 212 rfl) rfl
theorem q1732 : (Jvm.Cond.superclass "PeacockLawns$Parser" "java/lang/Object") ∈ lw_all := lw_g (lw_at lw_m7 213 rfl) rfl
theorem q1734 : (Jvm.Cond.instanceMethod ({ cls := "PeacockLawns$Parser", name := "text", desc := "()Ljava/util/List;" } : Jvm.MethodName)) ∈ lw_all := lw_g (lw_at lw_m7 215 rfl) rfl
theorem q1735 : (Jvm.Cond.selects "PeacockLawns$Parser" ({ cls := "PeacockLawns$Parser", name := "text", desc := "()Ljava/util/List;" } : Jvm.MethodName) ({ cls := "PeacockLawns$Parser", name := "text", desc := "()Ljava/util/List;" } : Jvm.MethodName)) ∈ lw_all := lw_g (lw_at lw_m7 216 rfl) rfl
theorem q1736 : (Jvm.Cond.code ({ cls := "PeacockLawns$Parser", name := "text", desc := "()Ljava/util/List;" } : Jvm.MethodName) prog_10_method_7_code (3 : Nat) (Option.some (Jvm.ClassFile.FieldType.object "java/util/List"))) ∈ lw_all := lw_g (lw_at lw_m7 217 rfl) rfl
theorem q1737 : (Jvm.Cond.classLink "PeacockLawns$Parser" (116 : Nat) "java/util/ArrayList") ∈ lw_all := lw_g (lw_at lw_m7 218 rfl) rfl
theorem q1738 : (Jvm.Cond.methodLink "PeacockLawns$Parser" (118 : Nat) ({ cls := "java/util/ArrayList", name := "<init>", desc := "()V" } : Jvm.MethodName)) ∈ lw_all := lw_g (lw_at lw_m7 219 rfl) rfl
theorem q1739 : (Jvm.Cond.methodLink "PeacockLawns$Parser" (119 : Nat) ({ cls := "PeacockLawns$Parser", name := "command", desc := "()LPeacockLawns$Deed;" } : Jvm.MethodName)) ∈ lw_all := lw_g (lw_at lw_m7 220 rfl) rfl
theorem q1740 : (Jvm.Cond.privateMethod ({ cls := "PeacockLawns$Parser", name := "command", desc := "()LPeacockLawns$Deed;" } : Jvm.MethodName)) ∈ lw_tbl := lw_at lw_m7 221 rfl
theorem q1741 : (Jvm.Cond.instanceMethod ({ cls := "PeacockLawns$Parser", name := "command", desc := "()LPeacockLawns$Deed;" } : Jvm.MethodName)) ∈ lw_all := lw_g (lw_at lw_m7 222 rfl) rfl
theorem q1742 : (Jvm.Cond.code ({ cls := "PeacockLawns$Parser", name := "command", desc := "()LPeacockLawns$Deed;" } : Jvm.MethodName) prog_10_method_6_code (8 : Nat) (Option.some (Jvm.ClassFile.FieldType.object "PeacockLawns$Deed"))) ∈ lw_all := lw_g (lw_at lw_m7 223 rfl) rfl
theorem q1743 : (Jvm.Cond.methodLink "PeacockLawns$Parser" (76 : Nat) ({ cls := "PeacockLawns$Parser", name := "word", desc := "()Ljava/lang/String;" } : Jvm.MethodName)) ∈ lw_all := lw_g (lw_at lw_m7 224 rfl) rfl
theorem q1744 : (Jvm.Cond.privateMethod ({ cls := "PeacockLawns$Parser", name := "word", desc := "()Ljava/lang/String;" } : Jvm.MethodName)) ∈ lw_tbl := lw_at lw_m7 225 rfl
theorem q1745 : (Jvm.Cond.instanceMethod ({ cls := "PeacockLawns$Parser", name := "word", desc := "()Ljava/lang/String;" } : Jvm.MethodName)) ∈ lw_all := lw_g (lw_at lw_m7 226 rfl) rfl
theorem q1746 : (Jvm.Cond.code ({ cls := "PeacockLawns$Parser", name := "word", desc := "()Ljava/lang/String;" } : Jvm.MethodName) prog_10_method_5_code (4 : Nat) (Option.some (Jvm.ClassFile.FieldType.object "java/lang/String"))) ∈ lw_all := lw_g (lw_at lw_m7 227 rfl) rfl
theorem q1747 : (Jvm.Cond.stringRef "PeacockLawns$Parser" (50 : Nat) " walk shear find sell lay seat days ") ∈ lw_tbl := lw_at lw_m7 228 rfl
theorem q1748 : (Jvm.Cond.stringRef "PeacockLawns$Parser" (52 : Nat) " ") ∈ lw_tbl := lw_at lw_m7 229 rfl
theorem q1749 : (Jvm.Cond.classLink "PeacockLawns$Parser" (24 : Nat) "java/lang/StringBuilder") ∈ lw_all := lw_g (lw_at lw_m7 230 rfl) rfl
theorem q1750 : (Jvm.Cond.methodLink "PeacockLawns$Parser" (54 : Nat) ({ cls := "java/lang/StringBuilder", name := "<init>", desc := "()V" } : Jvm.MethodName)) ∈ lw_all := lw_g (lw_at lw_m7 231 rfl) rfl
theorem q1751 : (Jvm.Cond.methodLink "PeacockLawns$Parser" (55 : Nat) ({ cls := "java/lang/StringBuilder", name := "append", desc := "(Ljava/lang/String;)Ljava/lang/StringBuilder;" } : Jvm.MethodName)) ∈ lw_all := lw_g (lw_at lw_m7 232 rfl) rfl
theorem q1752 : (Jvm.Cond.methodLink "PeacockLawns$Parser" (59 : Nat) ({ cls := "java/lang/StringBuilder", name := "toString", desc := "()Ljava/lang/String;" } : Jvm.MethodName)) ∈ lw_all := lw_g (lw_at lw_m7 233 rfl) rfl
theorem q1753 : (Jvm.Cond.methodLink "PeacockLawns$Parser" (63 : Nat) ({ cls := "java/lang/String", name := "contains", desc := "(Ljava/lang/CharSequence;)Z" } : Jvm.MethodName)) ∈ lw_all := lw_g (lw_at lw_m7 234 rfl) rfl
theorem q1791 : (Jvm.Cond.methodLink "PeacockLawns$Parser" (37 : Nat) ({ cls := "PeacockLawns$Parser", name := "isAt", desc := "(CC)Z" } : Jvm.MethodName)) ∈ lw_all := lw_g (lw_at lw_m8 32 rfl) rfl
theorem q1792 : (Jvm.Cond.privateMethod ({ cls := "PeacockLawns$Parser", name := "isAt", desc := "(CC)Z" } : Jvm.MethodName)) ∈ lw_tbl := lw_at lw_m8 33 rfl
theorem q1793 : (Jvm.Cond.instanceMethod ({ cls := "PeacockLawns$Parser", name := "isAt", desc := "(CC)Z" } : Jvm.MethodName)) ∈ lw_all := lw_g (lw_at lw_m8 34 rfl) rfl
theorem q1794 : (Jvm.Cond.code ({ cls := "PeacockLawns$Parser", name := "isAt", desc := "(CC)Z" } : Jvm.MethodName) prog_10_method_2_code (3 : Nat) (Option.some Jvm.ClassFile.FieldType.boolean)) ∈ lw_all := lw_g (lw_at lw_m8 35 rfl) rfl
theorem q1795 : (Jvm.Cond.methodLink "PeacockLawns$Parser" (23 : Nat) ({ cls := "java/lang/StringBuilder", name := "length", desc := "()I" } : Jvm.MethodName)) ∈ lw_all := lw_g (lw_at lw_m8 36 rfl) rfl
theorem q1796 : (Jvm.Cond.methodLink "PeacockLawns$Parser" (29 : Nat) ({ cls := "java/lang/StringBuilder", name := "charAt", desc := "(I)C" } : Jvm.MethodName)) ∈ lw_all := lw_g (lw_at lw_m8 37 rfl) rfl
theorem q1797 : (Jvm.Cond.methodLinkNest "PeacockLawns$Parser" (33 : Nat) ({ cls := "PeacockLawns", name := "inRange", desc := "(III)Z" } : Jvm.MethodName) "PeacockLawns") ∈ lw_tbl := lw_at lw_m8 38 rfl
theorem q1798 : (Jvm.Cond.methodLink "PeacockLawns$Parser" (69 : Nat) ({ cls := "java/lang/StringBuilder", name := "append", desc := "(C)Ljava/lang/StringBuilder;" } : Jvm.MethodName)) ∈ lw_all := lw_g (lw_at lw_m8 39 rfl) rfl
theorem q1799 : (Jvm.Cond.classLink "PeacockLawns$Parser" (41 : Nat) "PeacockLawns$FaultException") ∈ lw_all := lw_g (lw_at lw_m8 40 rfl) rfl
theorem q1808 : (Jvm.Cond.methodLink "PeacockLawns$Parser" (43 : Nat) ({ cls := "PeacockLawns$FaultException", name := "<init>", desc := "(I)V" } : Jvm.MethodName)) ∈ lw_all := lw_g (lw_at lw_m8 49 rfl) rfl
theorem q1818 : (Jvm.Cond.methodLink "PeacockLawns$Parser" (46 : Nat) ({ cls := "PeacockLawns$Parser", name := "take", desc := "(CC)C" } : Jvm.MethodName)) ∈ lw_all := lw_g (lw_at lw_m8 59 rfl) rfl
theorem q1819 : (Jvm.Cond.privateMethod ({ cls := "PeacockLawns$Parser", name := "take", desc := "(CC)C" } : Jvm.MethodName)) ∈ lw_tbl := lw_at lw_m8 60 rfl
theorem q1820 : (Jvm.Cond.instanceMethod ({ cls := "PeacockLawns$Parser", name := "take", desc := "(CC)C" } : Jvm.MethodName)) ∈ lw_all := lw_g (lw_at lw_m8 61 rfl) rfl
theorem q1821 : (Jvm.Cond.code ({ cls := "PeacockLawns$Parser", name := "take", desc := "(CC)C" } : Jvm.MethodName) prog_10_method_3_code (3 : Nat) (Option.some Jvm.ClassFile.FieldType.char)) ∈ lw_all := lw_g (lw_at lw_m8 62 rfl) rfl
theorem q1822 : (Jvm.Cond.methodLink "PeacockLawns$Parser" (72 : Nat) ({ cls := "java/lang/String", name := "substring", desc := "(I)Ljava/lang/String;" } : Jvm.MethodName)) ∈ lw_all := lw_g (lw_at lw_m8 63 rfl) rfl
theorem q1850 : (Jvm.Cond.stringRef "PeacockLawns$Parser" (79 : Nat) "sell") ∈ lw_tbl := lw_at lw_m8 91 rfl
theorem q1851 : (Jvm.Cond.methodLink "PeacockLawns$Parser" (81 : Nat) ({ cls := "java/lang/String", name := "equals", desc := "(Ljava/lang/Object;)Z" } : Jvm.MethodName)) ∈ lw_all := lw_g (lw_at lw_m8 92 rfl) rfl
theorem q1859 : (Jvm.Cond.stringRef "PeacockLawns$Parser" (85 : Nat) "lay") ∈ lw_tbl := lw_at lw_m8 100 rfl
theorem q1860 : (Jvm.Cond.stringRef "PeacockLawns$Parser" (87 : Nat) "days") ∈ lw_tbl := lw_at lw_m8 101 rfl
theorem q1861 : (Jvm.Cond.methodLink "PeacockLawns$Parser" (89 : Nat) ({ cls := "PeacockLawns$Parser", name := "number", desc := "(I)I" } : Jvm.MethodName)) ∈ lw_all := lw_g (lw_at lw_m8 102 rfl) rfl
theorem q1862 : (Jvm.Cond.privateMethod ({ cls := "PeacockLawns$Parser", name := "number", desc := "(I)I" } : Jvm.MethodName)) ∈ lw_tbl := lw_at lw_m8 103 rfl
theorem q1863 : (Jvm.Cond.instanceMethod ({ cls := "PeacockLawns$Parser", name := "number", desc := "(I)I" } : Jvm.MethodName)) ∈ lw_all := lw_g (lw_at lw_m8 104 rfl) rfl
theorem q1864 : (Jvm.Cond.code ({ cls := "PeacockLawns$Parser", name := "number", desc := "(I)I" } : Jvm.MethodName) prog_10_method_4_code (5 : Nat) (Option.some Jvm.ClassFile.FieldType.int)) ∈ lw_all := lw_g (lw_at lw_m8 105 rfl) rfl
theorem q1865 : (Jvm.Cond.methodLink "PeacockLawns$Parser" (93 : Nat) ({ cls := "java/lang/String", name := "hashCode", desc := "()I" } : Jvm.MethodName)) ∈ lw_all := lw_g (lw_at lw_m8 106 rfl) rfl
theorem q1922 : (Jvm.Cond.stringRef "PeacockLawns$Parser" (96 : Nat) "find") ∈ lw_tbl := lw_at lw_m8 163 rfl
theorem q1923 : (Jvm.Cond.stringRef "PeacockLawns$Parser" (98 : Nat) "shear") ∈ lw_tbl := lw_at lw_m8 164 rfl
theorem q1924 : (Jvm.Cond.static ({ cls := "PeacockLawns$Parser", name := "lambda$command$0", desc := "(ILPeacockLawns$Garden;)I" } : Jvm.MethodName)) ∈ lw_all := lw_g (lw_at lw_m8 165 rfl) rfl
theorem q1925 : (Jvm.Cond.code ({ cls := "PeacockLawns$Parser", name := "lambda$command$0", desc := "(ILPeacockLawns$Garden;)I" } : Jvm.MethodName) prog_10_method_14_code (2 : Nat) (Option.some Jvm.ClassFile.FieldType.int)) ∈ lw_all := lw_g (lw_at lw_m8 166 rfl) rfl
theorem q1926 : (Jvm.Cond.methodLink "PeacockLawns$Parser" (146 : Nat) ({ cls := "PeacockLawns$Garden", name := "find", desc := "(I)I" } : Jvm.MethodName)) ∈ lw_all := lw_g (lw_at lw_m8 167 rfl) rfl
theorem q1927 : (Jvm.Cond.static ({ cls := "PeacockLawns$Parser", name := "lambda$command$1", desc := "(ILPeacockLawns$Garden;)I" } : Jvm.MethodName)) ∈ lw_all := lw_g (lw_at lw_m8 168 rfl) rfl
theorem q1928 : (Jvm.Cond.code ({ cls := "PeacockLawns$Parser", name := "lambda$command$1", desc := "(ILPeacockLawns$Garden;)I" } : Jvm.MethodName) prog_10_method_13_code (2 : Nat) (Option.some Jvm.ClassFile.FieldType.int)) ∈ lw_all := lw_g (lw_at lw_m8 169 rfl) rfl
theorem q1929 : (Jvm.Cond.methodLink "PeacockLawns$Parser" (144 : Nat) ({ cls := "PeacockLawns$Garden", name := "sell", desc := "(I)I" } : Jvm.MethodName)) ∈ lw_all := lw_g (lw_at lw_m8 170 rfl) rfl
theorem q1930 : (Jvm.Cond.static ({ cls := "PeacockLawns$Parser", name := "lambda$command$2", desc := "(ILPeacockLawns$Garden;)I" } : Jvm.MethodName)) ∈ lw_all := lw_g (lw_at lw_m8 171 rfl) rfl
theorem q1931 : (Jvm.Cond.code ({ cls := "PeacockLawns$Parser", name := "lambda$command$2", desc := "(ILPeacockLawns$Garden;)I" } : Jvm.MethodName) prog_10_method_12_code (2 : Nat) (Option.some Jvm.ClassFile.FieldType.int)) ∈ lw_all := lw_g (lw_at lw_m8 172 rfl) rfl
theorem q1932 : (Jvm.Cond.methodLink "PeacockLawns$Parser" (142 : Nat) ({ cls := "PeacockLawns$Garden", name := "lay", desc := "(I)I" } : Jvm.MethodName)) ∈ lw_all := lw_g (lw_at lw_m8 173 rfl) rfl
theorem q1933 : (Jvm.Cond.static ({ cls := "PeacockLawns$Parser", name := "lambda$command$3", desc := "(ILPeacockLawns$Garden;)I" } : Jvm.MethodName)) ∈ lw_all := lw_g (lw_at lw_m8 174 rfl) rfl
theorem q1934 : (Jvm.Cond.code ({ cls := "PeacockLawns$Parser", name := "lambda$command$3", desc := "(ILPeacockLawns$Garden;)I" } : Jvm.MethodName) prog_10_method_11_code (2 : Nat) (Option.some Jvm.ClassFile.FieldType.int)) ∈ lw_all := lw_g (lw_at lw_m8 175 rfl) rfl
theorem q1935 : (Jvm.Cond.methodLink "PeacockLawns$Parser" (139 : Nat) ({ cls := "PeacockLawns$Garden", name := "pass", desc := "(I)I" } : Jvm.MethodName)) ∈ lw_all := lw_g (lw_at lw_m8 176 rfl) rfl
theorem q1936 : (Jvm.Cond.static ({ cls := "PeacockLawns$Parser", name := "lambda$command$4", desc := "(IIILPeacockLawns$Garden;)I" } : Jvm.MethodName)) ∈ lw_all := lw_g (lw_at lw_m8 177 rfl) rfl
theorem q1937 : (Jvm.Cond.code ({ cls := "PeacockLawns$Parser", name := "lambda$command$4", desc := "(IIILPeacockLawns$Garden;)I" } : Jvm.MethodName) prog_10_method_10_code (4 : Nat) (Option.some Jvm.ClassFile.FieldType.int)) ∈ lw_all := lw_g (lw_at lw_m8 178 rfl) rfl
theorem q1938 : (Jvm.Cond.methodLink "PeacockLawns$Parser" (136 : Nat) ({ cls := "PeacockLawns$Garden", name := "shear", desc := "(III)I" } : Jvm.MethodName)) ∈ lw_all := lw_g (lw_at lw_m8 179 rfl) rfl
theorem q1939 : (Jvm.Cond.stringRef "PeacockLawns$Parser" (110 : Nat) "walk") ∈ lw_tbl := lw_at lw_m8 180 rfl
theorem q1940 : (Jvm.Cond.static ({ cls := "PeacockLawns$Parser", name := "lambda$command$5", desc := "(IILPeacockLawns$Garden;)I" } : Jvm.MethodName)) ∈ lw_all := lw_g (lw_at lw_m8 181 rfl) rfl
theorem q1941 : (Jvm.Cond.code ({ cls := "PeacockLawns$Parser", name := "lambda$command$5", desc := "(IILPeacockLawns$Garden;)I" } : Jvm.MethodName) prog_10_method_9_code (3 : Nat) (Option.some Jvm.ClassFile.FieldType.int)) ∈ lw_all := lw_g (lw_at lw_m8 182 rfl) rfl
theorem q1942 : (Jvm.Cond.methodLink "PeacockLawns$Parser" (134 : Nat) ({ cls := "PeacockLawns$Garden", name := "walk", desc := "(II)I" } : Jvm.MethodName)) ∈ lw_all := lw_g (lw_at lw_m8 183 rfl) rfl
theorem q1943 : (Jvm.Cond.static ({ cls := "PeacockLawns$Parser", name := "lambda$command$6", desc := "(IILPeacockLawns$Garden;)I" } : Jvm.MethodName)) ∈ lw_all := lw_g (lw_at lw_m8 184 rfl) rfl
theorem q1944 : (Jvm.Cond.code ({ cls := "PeacockLawns$Parser", name := "lambda$command$6", desc := "(IILPeacockLawns$Garden;)I" } : Jvm.MethodName) prog_10_method_8_code (3 : Nat) (Option.some Jvm.ClassFile.FieldType.int)) ∈ lw_all := lw_g (lw_at lw_m8 185 rfl) rfl
theorem q1945 : (Jvm.Cond.methodLink "PeacockLawns$Parser" (128 : Nat) ({ cls := "PeacockLawns$Garden", name := "seat", desc := "(II)I" } : Jvm.MethodName)) ∈ lw_all := lw_g (lw_at lw_m8 186 rfl) rfl
theorem q1946 : (Jvm.Cond.interfaceEntry "PeacockLawns$Parser" (123 : Nat)) ∈ lw_tbl := lw_at lw_m8 187 rfl
theorem q1947 : (Jvm.Cond.methodLink "PeacockLawns$Parser" (123 : Nat) ({ cls := "java/util/List", name := "add", desc := "(Ljava/lang/Object;)Z" } : Jvm.MethodName)) ∈ lw_all := lw_g (lw_at lw_m8 188 rfl) rfl
theorem q2619 : (Jvm.Cond.castable "PeacockLawns$Parser" "java/lang/Object") ∈ lw_tbl := lw_at lw_m11 140 rfl
theorem in_X9 : ∀ w ∈ wsX90, w ∈ lw_all := lw_in wsX90 [1728, 1730] (by decide +kernel) (by decide +kernel)
/-! PeacockLawns$FaultException -/
set_option maxRecDepth 100000
def RX10 : String := "PeacockLawns$FaultException"
def TX10 : u_T := fun k => match k with
  | 0 => ("java/lang/Throwable", "cause", "Ljava/lang/Throwable;", false)
  | 1 => ("java/lang/Throwable", "stackTrace", "[Ljava/lang/StackTraceElement;", false)
  | 2 => ("java/lang/Throwable", "suppressedExceptions", "Ljava/util/List;", false)
  | 3 => ("java/lang/Throwable", "detailMessage", "Ljava/lang/String;", false)
  | 4 => ("java/lang/Throwable", "backtrace", "Ljava/lang/Object;", false)
  | 5 => ("java/lang/Throwable", "depth", "I", false)
  | _ => ("PeacockLawns$FaultException", "position", "I", true)
def tyX10 : Nat → FieldType := fun k => match k with
  | 0 => .object "java/lang/Throwable"
  | 1 => .array (.object "java/lang/StackTraceElement")
  | 2 => .object "java/util/List"
  | 3 => .object "java/lang/String"
  | 4 => .object "java/lang/Object"
  | 5 => .int
  | _ => .int
abbrev wsX100 : List Cond := u_ws RX10 TX10 7
theorem nmX10 : ∀ a, a < 7 → ∀ b, b < 7 → a ≠ b → (TX10 a).2.1 ≠ (TX10 b).2.1 := by decide +kernel
theorem tyX10_ok : ∀ k, k < 7 → parseFieldDescriptor (TX10 k).2.2.1 = some (tyX10 k) := by decide +kernel
abbrev cX10_init : ByteArray := prog_5_method_1_code
def yX10_init : MethodName := ⟨RX10, "<init>", "(I)V"⟩
def dkwX10_init_0 : List UInt8 := [42, 1, 1, 3, 3, 183, 0, 1, 42, 27, 181, 0, 7, 177]
abbrev dktX10_init_0 : List UInt8 := dkwX10_init_0 ++ []
theorem dksX10_init_0 : cX10_init.data.toList.drop 0 = dktX10_init_0 := by decide +kernel
theorem dX10_init_0 : decode cX10_init 0 = .ok (.aload_n 0, 1) := dk_42 (dk_at dksX10_init_0 0 rfl rfl)
theorem dX10_init_1 : decode cX10_init 1 = .ok (.aconst_null, 1) := dk_1 (dk_at dksX10_init_0 1 rfl rfl)
theorem dX10_init_2 : decode cX10_init 2 = .ok (.aconst_null, 1) := dk_1 (dk_at dksX10_init_0 2 rfl rfl)
theorem dX10_init_3 : decode cX10_init 3 = .ok (.iconst 0, 1) := dk_3 (dk_at dksX10_init_0 3 rfl rfl)
theorem dX10_init_4 : decode cX10_init 4 = .ok (.iconst 0, 1) := dk_3 (dk_at dksX10_init_0 4 rfl rfl)
theorem dX10_init_5 : decode cX10_init 5 = .ok (.invokespecial 1, 3) := dk_183 0 1 (dk_at dksX10_init_0 5 rfl rfl)
theorem dX10_init_8 : decode cX10_init 8 = .ok (.aload_n 0, 1) := dk_42 (dk_at dksX10_init_0 8 rfl rfl)
theorem dX10_init_9 : decode cX10_init 9 = .ok (.iload_n 1, 1) := dk_27 (dk_at dksX10_init_0 9 rfl rfl)
theorem dX10_init_10 : decode cX10_init 10 = .ok (.putfield 7, 3) := dk_181 0 7 (dk_at dksX10_init_0 10 rfl rfl)
theorem dX10_init_13 : decode cX10_init 13 = .ok (.return_, 1) := dk_177 (dk_at dksX10_init_0 13 rfl rfl)
theorem q118 : (Jvm.Cond.initialized "PeacockLawns$FaultException") ∈ lw_all := lw_g (lw_at lw_m1 39 rfl) rfl
theorem q410 : (Jvm.Cond.selects "PeacockLawns$FaultException" ({ cls := "java/lang/Throwable", name := "fillInStackTrace", desc := "()Ljava/lang/Throwable;" } : Jvm.MethodName) ({ cls := "java/lang/Throwable", name := "fillInStackTrace", desc := "()Ljava/lang/Throwable;" } : Jvm.MethodName)) ∈ lw_all := lw_g (lw_at lw_m2 91 rfl) rfl
theorem q755 : (Jvm.Cond.selects "PeacockLawns$FaultException" ({ cls := "java/lang/Object", name := "getClass", desc := "()Ljava/lang/Class;" } : Jvm.MethodName) ({ cls := "java/lang/Object", name := "getClass", desc := "()Ljava/lang/Class;" } : Jvm.MethodName)) ∈ lw_all := lw_g (lw_at lw_m3 196 rfl) rfl
theorem q1800 : (Jvm.Cond.instantiable "PeacockLawns$FaultException" (7 : Nat)) ∈ lw_all := lw_g (lw_at lw_m8 41 rfl) rfl
theorem q1801 : (Jvm.Cond.castable "PeacockLawns$FaultException" "PeacockLawns$FaultException") ∈ lw_tbl := lw_at lw_m8 42 rfl
theorem q1802 : (Jvm.Cond.selects "PeacockLawns$FaultException" ({ cls := "java/lang/Throwable", name := "fillInStackTrace", desc := "(I)Ljava/lang/Throwable;" } : Jvm.MethodName) ({ cls := "java/lang/Throwable", name := "fillInStackTrace", desc := "(I)Ljava/lang/Throwable;" } : Jvm.MethodName)) ∈ lw_all := lw_g (lw_at lw_m8 43 rfl) rfl
theorem q1803 : (Jvm.Cond.lays "PeacockLawns$FaultException" "java/lang/Throwable" "cause" "Ljava/lang/Throwable;") ∈ lw_all := lw_g (lw_at lw_m8 44 rfl) rfl
theorem q1804 : (Jvm.Cond.lays "PeacockLawns$FaultException" "java/lang/Throwable" "stackTrace" "[Ljava/lang/StackTraceElement;") ∈ lw_all := lw_g (lw_at lw_m8 45 rfl) rfl
theorem q1805 : (Jvm.Cond.lays "PeacockLawns$FaultException" "java/lang/Throwable" "suppressedExceptions" "Ljava/util/List;") ∈ lw_all := lw_g (lw_at lw_m8 46 rfl) rfl
theorem q1806 : (Jvm.Cond.lays "PeacockLawns$FaultException" "java/lang/Throwable" "detailMessage" "Ljava/lang/String;") ∈ lw_all := lw_g (lw_at lw_m8 47 rfl) rfl
theorem q1807 : (Jvm.Cond.lays "PeacockLawns$FaultException" "java/lang/Throwable" "backtrace" "Ljava/lang/Object;") ∈ lw_all := lw_g (lw_at lw_m8 48 rfl) rfl
theorem q1809 : (Jvm.Cond.instanceMethod ({ cls := "PeacockLawns$FaultException", name := "<init>", desc := "(I)V" } : Jvm.MethodName)) ∈ lw_all := lw_g (lw_at lw_m8 50 rfl) rfl
theorem q1810 : (Jvm.Cond.code ({ cls := "PeacockLawns$FaultException", name := "<init>", desc := "(I)V" } : Jvm.MethodName) prog_5_method_1_code (2 : Nat) (Option.none : Option Jvm.ClassFile.FieldType)) ∈ lw_all := lw_g (lw_at lw_m8 51 rfl) rfl
theorem q1811 : (Jvm.Cond.methodLink "PeacockLawns$FaultException" (1 : Nat) ({ cls := "java/lang/Exception", name := "<init>", desc := "(Ljava/lang/String;Ljava/lang/Throwable;ZZ)V" } : Jvm.MethodName)) ∈ lw_all := lw_g (lw_at lw_m8 52 rfl) rfl
theorem q1812 : (Jvm.Cond.fieldLink "PeacockLawns$FaultException" (7 : Nat) "PeacockLawns$FaultException" "position" "I") ∈ lw_all := lw_g (lw_at lw_m8 53 rfl) rfl
theorem q1814 : (Jvm.Cond.laysFinal "PeacockLawns$FaultException" "PeacockLawns$FaultException" "position" "I") ∈ lw_all := lw_g (lw_at lw_m8 55 rfl) rfl
theorem q1815 : (Jvm.Cond.soleField "PeacockLawns$FaultException" "position") ∈ lw_all := lw_g (lw_at lw_m8 56 rfl) rfl
theorem q1816 : (Jvm.Cond.lays "PeacockLawns$FaultException" "java/lang/Throwable" "depth" "I") ∈ lw_all := lw_g (lw_at lw_m8 57 rfl) rfl
theorem q1817 : (Jvm.Cond.superclass "PeacockLawns$FaultException" "java/lang/Exception") ∈ lw_all := lw_g (lw_at lw_m8 58 rfl) rfl
theorem q2620 : (Jvm.Cond.castable "PeacockLawns$FaultException" "java/lang/Object") ∈ lw_tbl := lw_at lw_m11 141 rfl
theorem in_X10 : ∀ w ∈ wsX100, w ∈ lw_all := lw_in wsX100 [1803, 1804, 1805, 1806, 1807, 1816, 1814] (by decide +kernel) (by decide +kernel)
