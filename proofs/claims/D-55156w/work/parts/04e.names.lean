/-! PeacockLawnsLaw -/
set_option maxRecDepth 100000
def RX0 : String := "PeacockLawnsLaw"
abbrev cX0_cock : ByteArray := method_3_code
def yX0_cock : MethodName := ⟨RX0, "cock", "(LPeacockLawns;III[J)I"⟩
def dkwX0_cock_1 : List UInt8 := [58, 5, 6, 172, 3, 172]
abbrev dktX0_cock_1 : List UInt8 := dkwX0_cock_1 ++ []
def dkwX0_cock_0 : List UInt8 := [25, 4, 3, 42, 27, 28, 29, 182, 0, 7, 133, 80, 167, 0, 15, 58, 5, 4, 172, 58, 5, 5, 172]
abbrev dktX0_cock_0 : List UInt8 := dkwX0_cock_0 ++ dktX0_cock_1
theorem dksX0_cock_0 : cX0_cock.data.toList.drop 0 = dktX0_cock_0 := by decide +kernel
theorem dksX0_cock_1 : cX0_cock.data.toList.drop 23 = dktX0_cock_1 := dk_seg dksX0_cock_0 23 rfl rfl
theorem dX0_cock_0 : decode cX0_cock 0 = .ok (.aload 4, 2) := dk_25 4 (dk_at dksX0_cock_0 0 rfl rfl)
theorem dX0_cock_2 : decode cX0_cock 2 = .ok (.iconst 0, 1) := dk_3 (dk_at dksX0_cock_0 2 rfl rfl)
theorem dX0_cock_3 : decode cX0_cock 3 = .ok (.aload_n 0, 1) := dk_42 (dk_at dksX0_cock_0 3 rfl rfl)
theorem dX0_cock_4 : decode cX0_cock 4 = .ok (.iload_n 1, 1) := dk_27 (dk_at dksX0_cock_0 4 rfl rfl)
theorem dX0_cock_5 : decode cX0_cock 5 = .ok (.iload_n 2, 1) := dk_28 (dk_at dksX0_cock_0 5 rfl rfl)
theorem dX0_cock_6 : decode cX0_cock 6 = .ok (.iload_n 3, 1) := dk_29 (dk_at dksX0_cock_0 6 rfl rfl)
theorem dX0_cock_7 : decode cX0_cock 7 = .ok (.invokevirtual 7, 3) := dk_182 0 7 (dk_at dksX0_cock_0 7 rfl rfl)
theorem dX0_cock_10 : decode cX0_cock 10 = .ok (.i2l, 1) := dk_133 (dk_at dksX0_cock_0 10 rfl rfl)
theorem dX0_cock_11 : decode cX0_cock 11 = .ok (.lastore, 1) := dk_80 (dk_at dksX0_cock_0 11 rfl rfl)
theorem dX0_cock_12 : decode cX0_cock 12 = .ok (.goto 15, 3) := dk_167 0 15 (dk_at dksX0_cock_0 12 rfl rfl)
theorem dX0_cock_15 : decode cX0_cock 15 = .ok (.astore 5, 2) := dk_58 5 (dk_at dksX0_cock_0 15 rfl rfl)
theorem dX0_cock_17 : decode cX0_cock 17 = .ok (.iconst 1, 1) := dk_4 (dk_at dksX0_cock_0 17 rfl rfl)
theorem dX0_cock_18 : decode cX0_cock 18 = .ok (.ireturn, 1) := dk_172 (dk_at dksX0_cock_0 18 rfl rfl)
theorem dX0_cock_19 : decode cX0_cock 19 = .ok (.astore 5, 2) := dk_58 5 (dk_at dksX0_cock_0 19 rfl rfl)
theorem dX0_cock_21 : decode cX0_cock 21 = .ok (.iconst 2, 1) := dk_5 (dk_at dksX0_cock_0 21 rfl rfl)
theorem dX0_cock_22 : decode cX0_cock 22 = .ok (.ireturn, 1) := dk_172 (dk_at dksX0_cock_0 22 rfl rfl)
theorem dX0_cock_23 : decode cX0_cock 23 = .ok (.astore 5, 2) := dk_58 5 (dk_at dksX0_cock_1 0 rfl rfl)
theorem dX0_cock_25 : decode cX0_cock 25 = .ok (.iconst 3, 1) := dk_6 (dk_at dksX0_cock_1 2 rfl rfl)
theorem dX0_cock_26 : decode cX0_cock 26 = .ok (.ireturn, 1) := dk_172 (dk_at dksX0_cock_1 3 rfl rfl)
theorem dX0_cock_27 : decode cX0_cock 27 = .ok (.iconst 0, 1) := dk_3 (dk_at dksX0_cock_1 4 rfl rfl)
theorem dX0_cock_28 : decode cX0_cock 28 = .ok (.ireturn, 1) := dk_172 (dk_at dksX0_cock_1 5 rfl rfl)
abbrev cX0_hen : ByteArray := method_4_code
def yX0_hen : MethodName := ⟨RX0, "hen", "(LPeacockLawns;I[J)I"⟩
def dkwX0_hen_0 : List UInt8 := [44, 3, 42, 27, 182, 0, 19, 133, 80, 167, 0, 9, 78, 4, 172, 78, 5, 172, 3, 172]
abbrev dktX0_hen_0 : List UInt8 := dkwX0_hen_0 ++ []
theorem dksX0_hen_0 : cX0_hen.data.toList.drop 0 = dktX0_hen_0 := by decide +kernel
theorem dX0_hen_0 : decode cX0_hen 0 = .ok (.aload_n 2, 1) := dk_44 (dk_at dksX0_hen_0 0 rfl rfl)
theorem dX0_hen_1 : decode cX0_hen 1 = .ok (.iconst 0, 1) := dk_3 (dk_at dksX0_hen_0 1 rfl rfl)
theorem dX0_hen_2 : decode cX0_hen 2 = .ok (.aload_n 0, 1) := dk_42 (dk_at dksX0_hen_0 2 rfl rfl)
theorem dX0_hen_3 : decode cX0_hen 3 = .ok (.iload_n 1, 1) := dk_27 (dk_at dksX0_hen_0 3 rfl rfl)
theorem dX0_hen_4 : decode cX0_hen 4 = .ok (.invokevirtual 19, 3) := dk_182 0 19 (dk_at dksX0_hen_0 4 rfl rfl)
theorem dX0_hen_7 : decode cX0_hen 7 = .ok (.i2l, 1) := dk_133 (dk_at dksX0_hen_0 7 rfl rfl)
theorem dX0_hen_8 : decode cX0_hen 8 = .ok (.lastore, 1) := dk_80 (dk_at dksX0_hen_0 8 rfl rfl)
theorem dX0_hen_9 : decode cX0_hen 9 = .ok (.goto 9, 3) := dk_167 0 9 (dk_at dksX0_hen_0 9 rfl rfl)
theorem dX0_hen_12 : decode cX0_hen 12 = .ok (.astore_n 3, 1) := dk_78 (dk_at dksX0_hen_0 12 rfl rfl)
theorem dX0_hen_13 : decode cX0_hen 13 = .ok (.iconst 1, 1) := dk_4 (dk_at dksX0_hen_0 13 rfl rfl)
theorem dX0_hen_14 : decode cX0_hen 14 = .ok (.ireturn, 1) := dk_172 (dk_at dksX0_hen_0 14 rfl rfl)
theorem dX0_hen_15 : decode cX0_hen 15 = .ok (.astore_n 3, 1) := dk_78 (dk_at dksX0_hen_0 15 rfl rfl)
theorem dX0_hen_16 : decode cX0_hen 16 = .ok (.iconst 2, 1) := dk_5 (dk_at dksX0_hen_0 16 rfl rfl)
theorem dX0_hen_17 : decode cX0_hen 17 = .ok (.ireturn, 1) := dk_172 (dk_at dksX0_hen_0 17 rfl rfl)
theorem dX0_hen_18 : decode cX0_hen 18 = .ok (.iconst 0, 1) := dk_3 (dk_at dksX0_hen_0 18 rfl rfl)
theorem dX0_hen_19 : decode cX0_hen 19 = .ok (.ireturn, 1) := dk_172 (dk_at dksX0_hen_0 19 rfl rfl)
abbrev cX0_lay : ByteArray := method_5_code
def yX0_lay : MethodName := ⟨RX0, "lay", "(LPeacockLawns;I[J)I"⟩
def dkwX0_lay_0 : List UInt8 := [44, 3, 42, 27, 182, 0, 23, 133, 80, 167, 0, 9, 78, 4, 172, 78, 5, 172, 3, 172]
abbrev dktX0_lay_0 : List UInt8 := dkwX0_lay_0 ++ []
theorem dksX0_lay_0 : cX0_lay.data.toList.drop 0 = dktX0_lay_0 := by decide +kernel
theorem dX0_lay_0 : decode cX0_lay 0 = .ok (.aload_n 2, 1) := dk_44 (dk_at dksX0_lay_0 0 rfl rfl)
theorem dX0_lay_1 : decode cX0_lay 1 = .ok (.iconst 0, 1) := dk_3 (dk_at dksX0_lay_0 1 rfl rfl)
theorem dX0_lay_2 : decode cX0_lay 2 = .ok (.aload_n 0, 1) := dk_42 (dk_at dksX0_lay_0 2 rfl rfl)
theorem dX0_lay_3 : decode cX0_lay 3 = .ok (.iload_n 1, 1) := dk_27 (dk_at dksX0_lay_0 3 rfl rfl)
theorem dX0_lay_4 : decode cX0_lay 4 = .ok (.invokevirtual 23, 3) := dk_182 0 23 (dk_at dksX0_lay_0 4 rfl rfl)
theorem dX0_lay_7 : decode cX0_lay 7 = .ok (.i2l, 1) := dk_133 (dk_at dksX0_lay_0 7 rfl rfl)
theorem dX0_lay_8 : decode cX0_lay 8 = .ok (.lastore, 1) := dk_80 (dk_at dksX0_lay_0 8 rfl rfl)
theorem dX0_lay_9 : decode cX0_lay 9 = .ok (.goto 9, 3) := dk_167 0 9 (dk_at dksX0_lay_0 9 rfl rfl)
theorem dX0_lay_12 : decode cX0_lay 12 = .ok (.astore_n 3, 1) := dk_78 (dk_at dksX0_lay_0 12 rfl rfl)
theorem dX0_lay_13 : decode cX0_lay 13 = .ok (.iconst 1, 1) := dk_4 (dk_at dksX0_lay_0 13 rfl rfl)
theorem dX0_lay_14 : decode cX0_lay 14 = .ok (.ireturn, 1) := dk_172 (dk_at dksX0_lay_0 14 rfl rfl)
theorem dX0_lay_15 : decode cX0_lay 15 = .ok (.astore_n 3, 1) := dk_78 (dk_at dksX0_lay_0 15 rfl rfl)
theorem dX0_lay_16 : decode cX0_lay 16 = .ok (.iconst 2, 1) := dk_5 (dk_at dksX0_lay_0 16 rfl rfl)
theorem dX0_lay_17 : decode cX0_lay 17 = .ok (.ireturn, 1) := dk_172 (dk_at dksX0_lay_0 17 rfl rfl)
theorem dX0_lay_18 : decode cX0_lay 18 = .ok (.iconst 0, 1) := dk_3 (dk_at dksX0_lay_0 18 rfl rfl)
theorem dX0_lay_19 : decode cX0_lay 19 = .ok (.ireturn, 1) := dk_172 (dk_at dksX0_lay_0 19 rfl rfl)
abbrev cX0_birdOf : ByteArray := method_6_code
def yX0_birdOf : MethodName := ⟨RX0, "birdOf", "(LPeacockLawns;II[J)I"⟩
def dkwX0_birdOf_0 : List UInt8 := [45, 3, 42, 27, 28, 182, 0, 26, 133, 80, 167, 0, 11, 58, 4, 4, 172, 58, 4, 5, 172, 3, 172]
abbrev dktX0_birdOf_0 : List UInt8 := dkwX0_birdOf_0 ++ []
theorem dksX0_birdOf_0 : cX0_birdOf.data.toList.drop 0 = dktX0_birdOf_0 := by decide +kernel
theorem dX0_birdOf_0 : decode cX0_birdOf 0 = .ok (.aload_n 3, 1) := dk_45 (dk_at dksX0_birdOf_0 0 rfl rfl)
theorem dX0_birdOf_1 : decode cX0_birdOf 1 = .ok (.iconst 0, 1) := dk_3 (dk_at dksX0_birdOf_0 1 rfl rfl)
theorem dX0_birdOf_2 : decode cX0_birdOf 2 = .ok (.aload_n 0, 1) := dk_42 (dk_at dksX0_birdOf_0 2 rfl rfl)
theorem dX0_birdOf_3 : decode cX0_birdOf 3 = .ok (.iload_n 1, 1) := dk_27 (dk_at dksX0_birdOf_0 3 rfl rfl)
theorem dX0_birdOf_4 : decode cX0_birdOf 4 = .ok (.iload_n 2, 1) := dk_28 (dk_at dksX0_birdOf_0 4 rfl rfl)
theorem dX0_birdOf_5 : decode cX0_birdOf 5 = .ok (.invokevirtual 26, 3) := dk_182 0 26 (dk_at dksX0_birdOf_0 5 rfl rfl)
theorem dX0_birdOf_8 : decode cX0_birdOf 8 = .ok (.i2l, 1) := dk_133 (dk_at dksX0_birdOf_0 8 rfl rfl)
theorem dX0_birdOf_9 : decode cX0_birdOf 9 = .ok (.lastore, 1) := dk_80 (dk_at dksX0_birdOf_0 9 rfl rfl)
theorem dX0_birdOf_10 : decode cX0_birdOf 10 = .ok (.goto 11, 3) := dk_167 0 11 (dk_at dksX0_birdOf_0 10 rfl rfl)
theorem dX0_birdOf_13 : decode cX0_birdOf 13 = .ok (.astore 4, 2) := dk_58 4 (dk_at dksX0_birdOf_0 13 rfl rfl)
theorem dX0_birdOf_15 : decode cX0_birdOf 15 = .ok (.iconst 1, 1) := dk_4 (dk_at dksX0_birdOf_0 15 rfl rfl)
theorem dX0_birdOf_16 : decode cX0_birdOf 16 = .ok (.ireturn, 1) := dk_172 (dk_at dksX0_birdOf_0 16 rfl rfl)
theorem dX0_birdOf_17 : decode cX0_birdOf 17 = .ok (.astore 4, 2) := dk_58 4 (dk_at dksX0_birdOf_0 17 rfl rfl)
theorem dX0_birdOf_19 : decode cX0_birdOf 19 = .ok (.iconst 2, 1) := dk_5 (dk_at dksX0_birdOf_0 19 rfl rfl)
theorem dX0_birdOf_20 : decode cX0_birdOf 20 = .ok (.ireturn, 1) := dk_172 (dk_at dksX0_birdOf_0 20 rfl rfl)
theorem dX0_birdOf_21 : decode cX0_birdOf 21 = .ok (.iconst 0, 1) := dk_3 (dk_at dksX0_birdOf_0 21 rfl rfl)
theorem dX0_birdOf_22 : decode cX0_birdOf 22 = .ok (.ireturn, 1) := dk_172 (dk_at dksX0_birdOf_0 22 rfl rfl)
abbrev cX0_goesTo : ByteArray := method_7_code
def yX0_goesTo : MethodName := ⟨RX0, "goesTo", "(LPeacockLawns;I[J)I"⟩
def dkwX0_goesTo_0 : List UInt8 := [44, 3, 42, 27, 182, 0, 30, 133, 80, 167, 0, 6, 78, 4, 172, 3, 172]
abbrev dktX0_goesTo_0 : List UInt8 := dkwX0_goesTo_0 ++ []
theorem dksX0_goesTo_0 : cX0_goesTo.data.toList.drop 0 = dktX0_goesTo_0 := by decide +kernel
theorem dX0_goesTo_0 : decode cX0_goesTo 0 = .ok (.aload_n 2, 1) := dk_44 (dk_at dksX0_goesTo_0 0 rfl rfl)
theorem dX0_goesTo_1 : decode cX0_goesTo 1 = .ok (.iconst 0, 1) := dk_3 (dk_at dksX0_goesTo_0 1 rfl rfl)
theorem dX0_goesTo_2 : decode cX0_goesTo 2 = .ok (.aload_n 0, 1) := dk_42 (dk_at dksX0_goesTo_0 2 rfl rfl)
theorem dX0_goesTo_3 : decode cX0_goesTo 3 = .ok (.iload_n 1, 1) := dk_27 (dk_at dksX0_goesTo_0 3 rfl rfl)
theorem dX0_goesTo_4 : decode cX0_goesTo 4 = .ok (.invokevirtual 30, 3) := dk_182 0 30 (dk_at dksX0_goesTo_0 4 rfl rfl)
theorem dX0_goesTo_7 : decode cX0_goesTo 7 = .ok (.i2l, 1) := dk_133 (dk_at dksX0_goesTo_0 7 rfl rfl)
theorem dX0_goesTo_8 : decode cX0_goesTo 8 = .ok (.lastore, 1) := dk_80 (dk_at dksX0_goesTo_0 8 rfl rfl)
theorem dX0_goesTo_9 : decode cX0_goesTo 9 = .ok (.goto 6, 3) := dk_167 0 6 (dk_at dksX0_goesTo_0 9 rfl rfl)
theorem dX0_goesTo_12 : decode cX0_goesTo 12 = .ok (.astore_n 3, 1) := dk_78 (dk_at dksX0_goesTo_0 12 rfl rfl)
theorem dX0_goesTo_13 : decode cX0_goesTo 13 = .ok (.iconst 1, 1) := dk_4 (dk_at dksX0_goesTo_0 13 rfl rfl)
theorem dX0_goesTo_14 : decode cX0_goesTo 14 = .ok (.ireturn, 1) := dk_172 (dk_at dksX0_goesTo_0 14 rfl rfl)
theorem dX0_goesTo_15 : decode cX0_goesTo 15 = .ok (.iconst 0, 1) := dk_3 (dk_at dksX0_goesTo_0 15 rfl rfl)
theorem dX0_goesTo_16 : decode cX0_goesTo 16 = .ok (.ireturn, 1) := dk_172 (dk_at dksX0_goesTo_0 16 rfl rfl)
abbrev cX0_ordered : ByteArray := method_8_code
def yX0_ordered : MethodName := ⟨RX0, "ordered", "(LPeacockLawns;I[J)I"⟩
def dkwX0_ordered_0 : List UInt8 := [44, 3, 42, 27, 182, 0, 33, 133, 80, 167, 0, 6, 78, 4, 172, 3, 172]
abbrev dktX0_ordered_0 : List UInt8 := dkwX0_ordered_0 ++ []
theorem dksX0_ordered_0 : cX0_ordered.data.toList.drop 0 = dktX0_ordered_0 := by decide +kernel
theorem dX0_ordered_0 : decode cX0_ordered 0 = .ok (.aload_n 2, 1) := dk_44 (dk_at dksX0_ordered_0 0 rfl rfl)
theorem dX0_ordered_1 : decode cX0_ordered 1 = .ok (.iconst 0, 1) := dk_3 (dk_at dksX0_ordered_0 1 rfl rfl)
theorem dX0_ordered_2 : decode cX0_ordered 2 = .ok (.aload_n 0, 1) := dk_42 (dk_at dksX0_ordered_0 2 rfl rfl)
theorem dX0_ordered_3 : decode cX0_ordered 3 = .ok (.iload_n 1, 1) := dk_27 (dk_at dksX0_ordered_0 3 rfl rfl)
theorem dX0_ordered_4 : decode cX0_ordered 4 = .ok (.invokevirtual 33, 3) := dk_182 0 33 (dk_at dksX0_ordered_0 4 rfl rfl)
theorem dX0_ordered_7 : decode cX0_ordered 7 = .ok (.i2l, 1) := dk_133 (dk_at dksX0_ordered_0 7 rfl rfl)
theorem dX0_ordered_8 : decode cX0_ordered 8 = .ok (.lastore, 1) := dk_80 (dk_at dksX0_ordered_0 8 rfl rfl)
theorem dX0_ordered_9 : decode cX0_ordered 9 = .ok (.goto 6, 3) := dk_167 0 6 (dk_at dksX0_ordered_0 9 rfl rfl)
theorem dX0_ordered_12 : decode cX0_ordered 12 = .ok (.astore_n 3, 1) := dk_78 (dk_at dksX0_ordered_0 12 rfl rfl)
theorem dX0_ordered_13 : decode cX0_ordered 13 = .ok (.iconst 1, 1) := dk_4 (dk_at dksX0_ordered_0 13 rfl rfl)
theorem dX0_ordered_14 : decode cX0_ordered 14 = .ok (.ireturn, 1) := dk_172 (dk_at dksX0_ordered_0 14 rfl rfl)
theorem dX0_ordered_15 : decode cX0_ordered 15 = .ok (.iconst 0, 1) := dk_3 (dk_at dksX0_ordered_0 15 rfl rfl)
theorem dX0_ordered_16 : decode cX0_ordered 16 = .ok (.ireturn, 1) := dk_172 (dk_at dksX0_ordered_0 16 rfl rfl)
abbrev cX0_lawnOf : ByteArray := method_9_code
def yX0_lawnOf : MethodName := ⟨RX0, "lawnOf", "(LPeacockLawns;II[J)I"⟩
def dkwX0_lawnOf_0 : List UInt8 := [45, 3, 42, 27, 28, 182, 0, 38, 133, 80, 167, 0, 11, 58, 4, 4, 172, 58, 4, 5, 172, 3, 172]
abbrev dktX0_lawnOf_0 : List UInt8 := dkwX0_lawnOf_0 ++ []
theorem dksX0_lawnOf_0 : cX0_lawnOf.data.toList.drop 0 = dktX0_lawnOf_0 := by decide +kernel
theorem dX0_lawnOf_0 : decode cX0_lawnOf 0 = .ok (.aload_n 3, 1) := dk_45 (dk_at dksX0_lawnOf_0 0 rfl rfl)
theorem dX0_lawnOf_1 : decode cX0_lawnOf 1 = .ok (.iconst 0, 1) := dk_3 (dk_at dksX0_lawnOf_0 1 rfl rfl)
theorem dX0_lawnOf_2 : decode cX0_lawnOf 2 = .ok (.aload_n 0, 1) := dk_42 (dk_at dksX0_lawnOf_0 2 rfl rfl)
theorem dX0_lawnOf_3 : decode cX0_lawnOf 3 = .ok (.iload_n 1, 1) := dk_27 (dk_at dksX0_lawnOf_0 3 rfl rfl)
theorem dX0_lawnOf_4 : decode cX0_lawnOf 4 = .ok (.iload_n 2, 1) := dk_28 (dk_at dksX0_lawnOf_0 4 rfl rfl)
theorem dX0_lawnOf_5 : decode cX0_lawnOf 5 = .ok (.invokevirtual 38, 3) := dk_182 0 38 (dk_at dksX0_lawnOf_0 5 rfl rfl)
theorem dX0_lawnOf_8 : decode cX0_lawnOf 8 = .ok (.i2l, 1) := dk_133 (dk_at dksX0_lawnOf_0 8 rfl rfl)
theorem dX0_lawnOf_9 : decode cX0_lawnOf 9 = .ok (.lastore, 1) := dk_80 (dk_at dksX0_lawnOf_0 9 rfl rfl)
theorem dX0_lawnOf_10 : decode cX0_lawnOf 10 = .ok (.goto 11, 3) := dk_167 0 11 (dk_at dksX0_lawnOf_0 10 rfl rfl)
theorem dX0_lawnOf_13 : decode cX0_lawnOf 13 = .ok (.astore 4, 2) := dk_58 4 (dk_at dksX0_lawnOf_0 13 rfl rfl)
theorem dX0_lawnOf_15 : decode cX0_lawnOf 15 = .ok (.iconst 1, 1) := dk_4 (dk_at dksX0_lawnOf_0 15 rfl rfl)
theorem dX0_lawnOf_16 : decode cX0_lawnOf 16 = .ok (.ireturn, 1) := dk_172 (dk_at dksX0_lawnOf_0 16 rfl rfl)
theorem dX0_lawnOf_17 : decode cX0_lawnOf 17 = .ok (.astore 4, 2) := dk_58 4 (dk_at dksX0_lawnOf_0 17 rfl rfl)
theorem dX0_lawnOf_19 : decode cX0_lawnOf 19 = .ok (.iconst 2, 1) := dk_5 (dk_at dksX0_lawnOf_0 19 rfl rfl)
theorem dX0_lawnOf_20 : decode cX0_lawnOf 20 = .ok (.ireturn, 1) := dk_172 (dk_at dksX0_lawnOf_0 20 rfl rfl)
theorem dX0_lawnOf_21 : decode cX0_lawnOf 21 = .ok (.iconst 0, 1) := dk_3 (dk_at dksX0_lawnOf_0 21 rfl rfl)
theorem dX0_lawnOf_22 : decode cX0_lawnOf 22 = .ok (.ireturn, 1) := dk_172 (dk_at dksX0_lawnOf_0 22 rfl rfl)
abbrev cX0_height : ByteArray := method_10_code
def yX0_height : MethodName := ⟨RX0, "height", "(LPeacockLawns;I[J)I"⟩
def dkwX0_height_0 : List UInt8 := [44, 3, 42, 27, 182, 0, 41, 133, 80, 167, 0, 6, 78, 4, 172, 3, 172]
abbrev dktX0_height_0 : List UInt8 := dkwX0_height_0 ++ []
theorem dksX0_height_0 : cX0_height.data.toList.drop 0 = dktX0_height_0 := by decide +kernel
theorem dX0_height_0 : decode cX0_height 0 = .ok (.aload_n 2, 1) := dk_44 (dk_at dksX0_height_0 0 rfl rfl)
theorem dX0_height_1 : decode cX0_height 1 = .ok (.iconst 0, 1) := dk_3 (dk_at dksX0_height_0 1 rfl rfl)
theorem dX0_height_2 : decode cX0_height 2 = .ok (.aload_n 0, 1) := dk_42 (dk_at dksX0_height_0 2 rfl rfl)
theorem dX0_height_3 : decode cX0_height 3 = .ok (.iload_n 1, 1) := dk_27 (dk_at dksX0_height_0 3 rfl rfl)
theorem dX0_height_4 : decode cX0_height 4 = .ok (.invokevirtual 41, 3) := dk_182 0 41 (dk_at dksX0_height_0 4 rfl rfl)
theorem dX0_height_7 : decode cX0_height 7 = .ok (.i2l, 1) := dk_133 (dk_at dksX0_height_0 7 rfl rfl)
theorem dX0_height_8 : decode cX0_height 8 = .ok (.lastore, 1) := dk_80 (dk_at dksX0_height_0 8 rfl rfl)
theorem dX0_height_9 : decode cX0_height 9 = .ok (.goto 6, 3) := dk_167 0 6 (dk_at dksX0_height_0 9 rfl rfl)
theorem dX0_height_12 : decode cX0_height 12 = .ok (.astore_n 3, 1) := dk_78 (dk_at dksX0_height_0 12 rfl rfl)
theorem dX0_height_13 : decode cX0_height 13 = .ok (.iconst 1, 1) := dk_4 (dk_at dksX0_height_0 13 rfl rfl)
theorem dX0_height_14 : decode cX0_height 14 = .ok (.ireturn, 1) := dk_172 (dk_at dksX0_height_0 14 rfl rfl)
theorem dX0_height_15 : decode cX0_height 15 = .ok (.iconst 0, 1) := dk_3 (dk_at dksX0_height_0 15 rfl rfl)
theorem dX0_height_16 : decode cX0_height 16 = .ok (.ireturn, 1) := dk_172 (dk_at dksX0_height_0 16 rfl rfl)
abbrev cX0_reached : ByteArray := method_11_code
def yX0_reached : MethodName := ⟨RX0, "reached", "(LPeacockLawns;II[J)I"⟩
def dkwX0_reached_0 : List UInt8 := [45, 3, 42, 27, 28, 182, 0, 44, 133, 80, 167, 0, 11, 58, 4, 4, 172, 58, 4, 5, 172, 3, 172]
abbrev dktX0_reached_0 : List UInt8 := dkwX0_reached_0 ++ []
theorem dksX0_reached_0 : cX0_reached.data.toList.drop 0 = dktX0_reached_0 := by decide +kernel
theorem dX0_reached_0 : decode cX0_reached 0 = .ok (.aload_n 3, 1) := dk_45 (dk_at dksX0_reached_0 0 rfl rfl)
theorem dX0_reached_1 : decode cX0_reached 1 = .ok (.iconst 0, 1) := dk_3 (dk_at dksX0_reached_0 1 rfl rfl)
theorem dX0_reached_2 : decode cX0_reached 2 = .ok (.aload_n 0, 1) := dk_42 (dk_at dksX0_reached_0 2 rfl rfl)
theorem dX0_reached_3 : decode cX0_reached 3 = .ok (.iload_n 1, 1) := dk_27 (dk_at dksX0_reached_0 3 rfl rfl)
theorem dX0_reached_4 : decode cX0_reached 4 = .ok (.iload_n 2, 1) := dk_28 (dk_at dksX0_reached_0 4 rfl rfl)
theorem dX0_reached_5 : decode cX0_reached 5 = .ok (.invokevirtual 44, 3) := dk_182 0 44 (dk_at dksX0_reached_0 5 rfl rfl)
theorem dX0_reached_8 : decode cX0_reached 8 = .ok (.i2l, 1) := dk_133 (dk_at dksX0_reached_0 8 rfl rfl)
theorem dX0_reached_9 : decode cX0_reached 9 = .ok (.lastore, 1) := dk_80 (dk_at dksX0_reached_0 9 rfl rfl)
theorem dX0_reached_10 : decode cX0_reached 10 = .ok (.goto 11, 3) := dk_167 0 11 (dk_at dksX0_reached_0 10 rfl rfl)
theorem dX0_reached_13 : decode cX0_reached 13 = .ok (.astore 4, 2) := dk_58 4 (dk_at dksX0_reached_0 13 rfl rfl)
theorem dX0_reached_15 : decode cX0_reached 15 = .ok (.iconst 1, 1) := dk_4 (dk_at dksX0_reached_0 15 rfl rfl)
theorem dX0_reached_16 : decode cX0_reached 16 = .ok (.ireturn, 1) := dk_172 (dk_at dksX0_reached_0 16 rfl rfl)
theorem dX0_reached_17 : decode cX0_reached 17 = .ok (.astore 4, 2) := dk_58 4 (dk_at dksX0_reached_0 17 rfl rfl)
theorem dX0_reached_19 : decode cX0_reached 19 = .ok (.iconst 2, 1) := dk_5 (dk_at dksX0_reached_0 19 rfl rfl)
theorem dX0_reached_20 : decode cX0_reached 20 = .ok (.ireturn, 1) := dk_172 (dk_at dksX0_reached_0 20 rfl rfl)
theorem dX0_reached_21 : decode cX0_reached 21 = .ok (.iconst 0, 1) := dk_3 (dk_at dksX0_reached_0 21 rfl rfl)
theorem dX0_reached_22 : decode cX0_reached 22 = .ok (.ireturn, 1) := dk_172 (dk_at dksX0_reached_0 22 rfl rfl)
abbrev cX0_reachedAgain : ByteArray := method_12_code
def yX0_reachedAgain : MethodName := ⟨RX0, "reachedAgain", "(LPeacockLawns;II[J)I"⟩
def dkwX0_reachedAgain_0 : List UInt8 := [45, 3, 42, 27, 28, 182, 0, 47, 133, 80, 167, 0, 11, 58, 4, 4, 172, 58, 4, 5, 172, 3, 172]
abbrev dktX0_reachedAgain_0 : List UInt8 := dkwX0_reachedAgain_0 ++ []
theorem dksX0_reachedAgain_0 : cX0_reachedAgain.data.toList.drop 0 = dktX0_reachedAgain_0 := by decide +kernel
theorem dX0_reachedAgain_0 : decode cX0_reachedAgain 0 = .ok (.aload_n 3, 1) := dk_45 (dk_at dksX0_reachedAgain_0 0 rfl rfl)
theorem dX0_reachedAgain_1 : decode cX0_reachedAgain 1 = .ok (.iconst 0, 1) := dk_3 (dk_at dksX0_reachedAgain_0 1 rfl rfl)
theorem dX0_reachedAgain_2 : decode cX0_reachedAgain 2 = .ok (.aload_n 0, 1) := dk_42 (dk_at dksX0_reachedAgain_0 2 rfl rfl)
theorem dX0_reachedAgain_3 : decode cX0_reachedAgain 3 = .ok (.iload_n 1, 1) := dk_27 (dk_at dksX0_reachedAgain_0 3 rfl rfl)
theorem dX0_reachedAgain_4 : decode cX0_reachedAgain 4 = .ok (.iload_n 2, 1) := dk_28 (dk_at dksX0_reachedAgain_0 4 rfl rfl)
theorem dX0_reachedAgain_5 : decode cX0_reachedAgain 5 = .ok (.invokevirtual 47, 3) := dk_182 0 47 (dk_at dksX0_reachedAgain_0 5 rfl rfl)
theorem dX0_reachedAgain_8 : decode cX0_reachedAgain 8 = .ok (.i2l, 1) := dk_133 (dk_at dksX0_reachedAgain_0 8 rfl rfl)
theorem dX0_reachedAgain_9 : decode cX0_reachedAgain 9 = .ok (.lastore, 1) := dk_80 (dk_at dksX0_reachedAgain_0 9 rfl rfl)
theorem dX0_reachedAgain_10 : decode cX0_reachedAgain 10 = .ok (.goto 11, 3) := dk_167 0 11 (dk_at dksX0_reachedAgain_0 10 rfl rfl)
theorem dX0_reachedAgain_13 : decode cX0_reachedAgain 13 = .ok (.astore 4, 2) := dk_58 4 (dk_at dksX0_reachedAgain_0 13 rfl rfl)
theorem dX0_reachedAgain_15 : decode cX0_reachedAgain 15 = .ok (.iconst 1, 1) := dk_4 (dk_at dksX0_reachedAgain_0 15 rfl rfl)
theorem dX0_reachedAgain_16 : decode cX0_reachedAgain 16 = .ok (.ireturn, 1) := dk_172 (dk_at dksX0_reachedAgain_0 16 rfl rfl)
theorem dX0_reachedAgain_17 : decode cX0_reachedAgain 17 = .ok (.astore 4, 2) := dk_58 4 (dk_at dksX0_reachedAgain_0 17 rfl rfl)
theorem dX0_reachedAgain_19 : decode cX0_reachedAgain 19 = .ok (.iconst 2, 1) := dk_5 (dk_at dksX0_reachedAgain_0 19 rfl rfl)
theorem dX0_reachedAgain_20 : decode cX0_reachedAgain 20 = .ok (.ireturn, 1) := dk_172 (dk_at dksX0_reachedAgain_0 20 rfl rfl)
theorem dX0_reachedAgain_21 : decode cX0_reachedAgain 21 = .ok (.iconst 0, 1) := dk_3 (dk_at dksX0_reachedAgain_0 21 rfl rfl)
theorem dX0_reachedAgain_22 : decode cX0_reachedAgain 22 = .ok (.ireturn, 1) := dk_172 (dk_at dksX0_reachedAgain_0 22 rfl rfl)
abbrev cX0_richest : ByteArray := method_13_code
def yX0_richest : MethodName := ⟨RX0, "richest", "(LPeacockLawns;[J)I"⟩
def dkwX0_richest_0 : List UInt8 := [43, 3, 42, 182, 0, 50, 133, 80, 167, 0, 6, 77, 4, 172, 3, 172]
abbrev dktX0_richest_0 : List UInt8 := dkwX0_richest_0 ++ []
theorem dksX0_richest_0 : cX0_richest.data.toList.drop 0 = dktX0_richest_0 := by decide +kernel
theorem dX0_richest_0 : decode cX0_richest 0 = .ok (.aload_n 1, 1) := dk_43 (dk_at dksX0_richest_0 0 rfl rfl)
theorem dX0_richest_1 : decode cX0_richest 1 = .ok (.iconst 0, 1) := dk_3 (dk_at dksX0_richest_0 1 rfl rfl)
theorem dX0_richest_2 : decode cX0_richest 2 = .ok (.aload_n 0, 1) := dk_42 (dk_at dksX0_richest_0 2 rfl rfl)
theorem dX0_richest_3 : decode cX0_richest 3 = .ok (.invokevirtual 50, 3) := dk_182 0 50 (dk_at dksX0_richest_0 3 rfl rfl)
theorem dX0_richest_6 : decode cX0_richest 6 = .ok (.i2l, 1) := dk_133 (dk_at dksX0_richest_0 6 rfl rfl)
theorem dX0_richest_7 : decode cX0_richest 7 = .ok (.lastore, 1) := dk_80 (dk_at dksX0_richest_0 7 rfl rfl)
theorem dX0_richest_8 : decode cX0_richest 8 = .ok (.goto 6, 3) := dk_167 0 6 (dk_at dksX0_richest_0 8 rfl rfl)
theorem dX0_richest_11 : decode cX0_richest 11 = .ok (.astore_n 2, 1) := dk_77 (dk_at dksX0_richest_0 11 rfl rfl)
theorem dX0_richest_12 : decode cX0_richest 12 = .ok (.iconst 1, 1) := dk_4 (dk_at dksX0_richest_0 12 rfl rfl)
theorem dX0_richest_13 : decode cX0_richest 13 = .ok (.ireturn, 1) := dk_172 (dk_at dksX0_richest_0 13 rfl rfl)
theorem dX0_richest_14 : decode cX0_richest 14 = .ok (.iconst 0, 1) := dk_3 (dk_at dksX0_richest_0 14 rfl rfl)
theorem dX0_richest_15 : decode cX0_richest 15 = .ok (.ireturn, 1) := dk_172 (dk_at dksX0_richest_0 15 rfl rfl)
abbrev cX0_keeper : ByteArray := method_14_code
def yX0_keeper : MethodName := ⟨RX0, "keeper", "(LPeacockLawns;[J)I"⟩
def dkwX0_keeper_0 : List UInt8 := [43, 3, 42, 182, 0, 54, 133, 80, 167, 0, 6, 77, 4, 172, 3, 172]
abbrev dktX0_keeper_0 : List UInt8 := dkwX0_keeper_0 ++ []
theorem dksX0_keeper_0 : cX0_keeper.data.toList.drop 0 = dktX0_keeper_0 := by decide +kernel
theorem dX0_keeper_0 : decode cX0_keeper 0 = .ok (.aload_n 1, 1) := dk_43 (dk_at dksX0_keeper_0 0 rfl rfl)
theorem dX0_keeper_1 : decode cX0_keeper 1 = .ok (.iconst 0, 1) := dk_3 (dk_at dksX0_keeper_0 1 rfl rfl)
theorem dX0_keeper_2 : decode cX0_keeper 2 = .ok (.aload_n 0, 1) := dk_42 (dk_at dksX0_keeper_0 2 rfl rfl)
theorem dX0_keeper_3 : decode cX0_keeper 3 = .ok (.invokevirtual 54, 3) := dk_182 0 54 (dk_at dksX0_keeper_0 3 rfl rfl)
theorem dX0_keeper_6 : decode cX0_keeper 6 = .ok (.i2l, 1) := dk_133 (dk_at dksX0_keeper_0 6 rfl rfl)
theorem dX0_keeper_7 : decode cX0_keeper 7 = .ok (.lastore, 1) := dk_80 (dk_at dksX0_keeper_0 7 rfl rfl)
theorem dX0_keeper_8 : decode cX0_keeper 8 = .ok (.goto 6, 3) := dk_167 0 6 (dk_at dksX0_keeper_0 8 rfl rfl)
theorem dX0_keeper_11 : decode cX0_keeper 11 = .ok (.astore_n 2, 1) := dk_77 (dk_at dksX0_keeper_0 11 rfl rfl)
theorem dX0_keeper_12 : decode cX0_keeper 12 = .ok (.iconst 1, 1) := dk_4 (dk_at dksX0_keeper_0 12 rfl rfl)
theorem dX0_keeper_13 : decode cX0_keeper 13 = .ok (.ireturn, 1) := dk_172 (dk_at dksX0_keeper_0 13 rfl rfl)
theorem dX0_keeper_14 : decode cX0_keeper 14 = .ok (.iconst 0, 1) := dk_3 (dk_at dksX0_keeper_0 14 rfl rfl)
theorem dX0_keeper_15 : decode cX0_keeper 15 = .ok (.ireturn, 1) := dk_172 (dk_at dksX0_keeper_0 15 rfl rfl)
abbrev cX0_keeperOf : ByteArray := method_15_code
def yX0_keeperOf : MethodName := ⟨RX0, "keeperOf", "(LPeacockLawns;II[J)I"⟩
def dkwX0_keeperOf_0 : List UInt8 := [45, 3, 42, 27, 28, 182, 0, 57, 133, 80, 167, 0, 11, 58, 4, 4, 172, 58, 4, 5, 172, 3, 172]
abbrev dktX0_keeperOf_0 : List UInt8 := dkwX0_keeperOf_0 ++ []
theorem dksX0_keeperOf_0 : cX0_keeperOf.data.toList.drop 0 = dktX0_keeperOf_0 := by decide +kernel
theorem dX0_keeperOf_0 : decode cX0_keeperOf 0 = .ok (.aload_n 3, 1) := dk_45 (dk_at dksX0_keeperOf_0 0 rfl rfl)
theorem dX0_keeperOf_1 : decode cX0_keeperOf 1 = .ok (.iconst 0, 1) := dk_3 (dk_at dksX0_keeperOf_0 1 rfl rfl)
theorem dX0_keeperOf_2 : decode cX0_keeperOf 2 = .ok (.aload_n 0, 1) := dk_42 (dk_at dksX0_keeperOf_0 2 rfl rfl)
theorem dX0_keeperOf_3 : decode cX0_keeperOf 3 = .ok (.iload_n 1, 1) := dk_27 (dk_at dksX0_keeperOf_0 3 rfl rfl)
theorem dX0_keeperOf_4 : decode cX0_keeperOf 4 = .ok (.iload_n 2, 1) := dk_28 (dk_at dksX0_keeperOf_0 4 rfl rfl)
theorem dX0_keeperOf_5 : decode cX0_keeperOf 5 = .ok (.invokevirtual 57, 3) := dk_182 0 57 (dk_at dksX0_keeperOf_0 5 rfl rfl)
theorem dX0_keeperOf_8 : decode cX0_keeperOf 8 = .ok (.i2l, 1) := dk_133 (dk_at dksX0_keeperOf_0 8 rfl rfl)
theorem dX0_keeperOf_9 : decode cX0_keeperOf 9 = .ok (.lastore, 1) := dk_80 (dk_at dksX0_keeperOf_0 9 rfl rfl)
theorem dX0_keeperOf_10 : decode cX0_keeperOf 10 = .ok (.goto 11, 3) := dk_167 0 11 (dk_at dksX0_keeperOf_0 10 rfl rfl)
theorem dX0_keeperOf_13 : decode cX0_keeperOf 13 = .ok (.astore 4, 2) := dk_58 4 (dk_at dksX0_keeperOf_0 13 rfl rfl)
theorem dX0_keeperOf_15 : decode cX0_keeperOf 15 = .ok (.iconst 1, 1) := dk_4 (dk_at dksX0_keeperOf_0 15 rfl rfl)
theorem dX0_keeperOf_16 : decode cX0_keeperOf 16 = .ok (.ireturn, 1) := dk_172 (dk_at dksX0_keeperOf_0 16 rfl rfl)
theorem dX0_keeperOf_17 : decode cX0_keeperOf 17 = .ok (.astore 4, 2) := dk_58 4 (dk_at dksX0_keeperOf_0 17 rfl rfl)
theorem dX0_keeperOf_19 : decode cX0_keeperOf 19 = .ok (.iconst 2, 1) := dk_5 (dk_at dksX0_keeperOf_0 19 rfl rfl)
theorem dX0_keeperOf_20 : decode cX0_keeperOf 20 = .ok (.ireturn, 1) := dk_172 (dk_at dksX0_keeperOf_0 20 rfl rfl)
theorem dX0_keeperOf_21 : decode cX0_keeperOf 21 = .ok (.iconst 0, 1) := dk_3 (dk_at dksX0_keeperOf_0 21 rfl rfl)
theorem dX0_keeperOf_22 : decode cX0_keeperOf 22 = .ok (.ireturn, 1) := dk_172 (dk_at dksX0_keeperOf_0 22 rfl rfl)
abbrev cX0_walk : ByteArray := method_16_code
def yX0_walk : MethodName := ⟨RX0, "walk", "(LPeacockLawns;II[J)I"⟩
def dkwX0_walk_0 : List UInt8 := [45, 3, 42, 27, 28, 182, 0, 60, 133, 80, 167, 0, 11, 58, 4, 4, 172, 58, 4, 5, 172, 3, 172]
abbrev dktX0_walk_0 : List UInt8 := dkwX0_walk_0 ++ []
theorem dksX0_walk_0 : cX0_walk.data.toList.drop 0 = dktX0_walk_0 := by decide +kernel
theorem dX0_walk_0 : decode cX0_walk 0 = .ok (.aload_n 3, 1) := dk_45 (dk_at dksX0_walk_0 0 rfl rfl)
theorem dX0_walk_1 : decode cX0_walk 1 = .ok (.iconst 0, 1) := dk_3 (dk_at dksX0_walk_0 1 rfl rfl)
theorem dX0_walk_2 : decode cX0_walk 2 = .ok (.aload_n 0, 1) := dk_42 (dk_at dksX0_walk_0 2 rfl rfl)
theorem dX0_walk_3 : decode cX0_walk 3 = .ok (.iload_n 1, 1) := dk_27 (dk_at dksX0_walk_0 3 rfl rfl)
theorem dX0_walk_4 : decode cX0_walk 4 = .ok (.iload_n 2, 1) := dk_28 (dk_at dksX0_walk_0 4 rfl rfl)
theorem dX0_walk_5 : decode cX0_walk 5 = .ok (.invokevirtual 60, 3) := dk_182 0 60 (dk_at dksX0_walk_0 5 rfl rfl)
theorem dX0_walk_8 : decode cX0_walk 8 = .ok (.i2l, 1) := dk_133 (dk_at dksX0_walk_0 8 rfl rfl)
theorem dX0_walk_9 : decode cX0_walk 9 = .ok (.lastore, 1) := dk_80 (dk_at dksX0_walk_0 9 rfl rfl)
theorem dX0_walk_10 : decode cX0_walk 10 = .ok (.goto 11, 3) := dk_167 0 11 (dk_at dksX0_walk_0 10 rfl rfl)
theorem dX0_walk_13 : decode cX0_walk 13 = .ok (.astore 4, 2) := dk_58 4 (dk_at dksX0_walk_0 13 rfl rfl)
theorem dX0_walk_15 : decode cX0_walk 15 = .ok (.iconst 1, 1) := dk_4 (dk_at dksX0_walk_0 15 rfl rfl)
theorem dX0_walk_16 : decode cX0_walk 16 = .ok (.ireturn, 1) := dk_172 (dk_at dksX0_walk_0 16 rfl rfl)
theorem dX0_walk_17 : decode cX0_walk 17 = .ok (.astore 4, 2) := dk_58 4 (dk_at dksX0_walk_0 17 rfl rfl)
theorem dX0_walk_19 : decode cX0_walk 19 = .ok (.iconst 2, 1) := dk_5 (dk_at dksX0_walk_0 19 rfl rfl)
theorem dX0_walk_20 : decode cX0_walk 20 = .ok (.ireturn, 1) := dk_172 (dk_at dksX0_walk_0 20 rfl rfl)
theorem dX0_walk_21 : decode cX0_walk 21 = .ok (.iconst 0, 1) := dk_3 (dk_at dksX0_walk_0 21 rfl rfl)
theorem dX0_walk_22 : decode cX0_walk 22 = .ok (.ireturn, 1) := dk_172 (dk_at dksX0_walk_0 22 rfl rfl)
abbrev cX0_shear : ByteArray := method_17_code
def yX0_shear : MethodName := ⟨RX0, "shear", "(LPeacockLawns;III[J)I"⟩
def dkwX0_shear_1 : List UInt8 := [58, 5, 6, 172, 3, 172]
abbrev dktX0_shear_1 : List UInt8 := dkwX0_shear_1 ++ []
def dkwX0_shear_0 : List UInt8 := [25, 4, 3, 42, 27, 28, 29, 182, 0, 63, 133, 80, 167, 0, 15, 58, 5, 4, 172, 58, 5, 5, 172]
abbrev dktX0_shear_0 : List UInt8 := dkwX0_shear_0 ++ dktX0_shear_1
theorem dksX0_shear_0 : cX0_shear.data.toList.drop 0 = dktX0_shear_0 := by decide +kernel
theorem dksX0_shear_1 : cX0_shear.data.toList.drop 23 = dktX0_shear_1 := dk_seg dksX0_shear_0 23 rfl rfl
theorem dX0_shear_0 : decode cX0_shear 0 = .ok (.aload 4, 2) := dk_25 4 (dk_at dksX0_shear_0 0 rfl rfl)
theorem dX0_shear_2 : decode cX0_shear 2 = .ok (.iconst 0, 1) := dk_3 (dk_at dksX0_shear_0 2 rfl rfl)
theorem dX0_shear_3 : decode cX0_shear 3 = .ok (.aload_n 0, 1) := dk_42 (dk_at dksX0_shear_0 3 rfl rfl)
theorem dX0_shear_4 : decode cX0_shear 4 = .ok (.iload_n 1, 1) := dk_27 (dk_at dksX0_shear_0 4 rfl rfl)
theorem dX0_shear_5 : decode cX0_shear 5 = .ok (.iload_n 2, 1) := dk_28 (dk_at dksX0_shear_0 5 rfl rfl)
theorem dX0_shear_6 : decode cX0_shear 6 = .ok (.iload_n 3, 1) := dk_29 (dk_at dksX0_shear_0 6 rfl rfl)
theorem dX0_shear_7 : decode cX0_shear 7 = .ok (.invokevirtual 63, 3) := dk_182 0 63 (dk_at dksX0_shear_0 7 rfl rfl)
theorem dX0_shear_10 : decode cX0_shear 10 = .ok (.i2l, 1) := dk_133 (dk_at dksX0_shear_0 10 rfl rfl)
theorem dX0_shear_11 : decode cX0_shear 11 = .ok (.lastore, 1) := dk_80 (dk_at dksX0_shear_0 11 rfl rfl)
theorem dX0_shear_12 : decode cX0_shear 12 = .ok (.goto 15, 3) := dk_167 0 15 (dk_at dksX0_shear_0 12 rfl rfl)
theorem dX0_shear_15 : decode cX0_shear 15 = .ok (.astore 5, 2) := dk_58 5 (dk_at dksX0_shear_0 15 rfl rfl)
theorem dX0_shear_17 : decode cX0_shear 17 = .ok (.iconst 1, 1) := dk_4 (dk_at dksX0_shear_0 17 rfl rfl)
theorem dX0_shear_18 : decode cX0_shear 18 = .ok (.ireturn, 1) := dk_172 (dk_at dksX0_shear_0 18 rfl rfl)
theorem dX0_shear_19 : decode cX0_shear 19 = .ok (.astore 5, 2) := dk_58 5 (dk_at dksX0_shear_0 19 rfl rfl)
theorem dX0_shear_21 : decode cX0_shear 21 = .ok (.iconst 2, 1) := dk_5 (dk_at dksX0_shear_0 21 rfl rfl)
theorem dX0_shear_22 : decode cX0_shear 22 = .ok (.ireturn, 1) := dk_172 (dk_at dksX0_shear_0 22 rfl rfl)
theorem dX0_shear_23 : decode cX0_shear 23 = .ok (.astore 5, 2) := dk_58 5 (dk_at dksX0_shear_1 0 rfl rfl)
theorem dX0_shear_25 : decode cX0_shear 25 = .ok (.iconst 3, 1) := dk_6 (dk_at dksX0_shear_1 2 rfl rfl)
theorem dX0_shear_26 : decode cX0_shear 26 = .ok (.ireturn, 1) := dk_172 (dk_at dksX0_shear_1 3 rfl rfl)
theorem dX0_shear_27 : decode cX0_shear 27 = .ok (.iconst 0, 1) := dk_3 (dk_at dksX0_shear_1 4 rfl rfl)
theorem dX0_shear_28 : decode cX0_shear 28 = .ok (.ireturn, 1) := dk_172 (dk_at dksX0_shear_1 5 rfl rfl)
abbrev cX0_find : ByteArray := method_18_code
def yX0_find : MethodName := ⟨RX0, "find", "(LPeacockLawns;I[J)I"⟩
def dkwX0_find_0 : List UInt8 := [44, 3, 42, 27, 182, 0, 66, 133, 80, 167, 0, 9, 78, 4, 172, 78, 5, 172, 3, 172]
abbrev dktX0_find_0 : List UInt8 := dkwX0_find_0 ++ []
theorem dksX0_find_0 : cX0_find.data.toList.drop 0 = dktX0_find_0 := by decide +kernel
theorem dX0_find_0 : decode cX0_find 0 = .ok (.aload_n 2, 1) := dk_44 (dk_at dksX0_find_0 0 rfl rfl)
theorem dX0_find_1 : decode cX0_find 1 = .ok (.iconst 0, 1) := dk_3 (dk_at dksX0_find_0 1 rfl rfl)
theorem dX0_find_2 : decode cX0_find 2 = .ok (.aload_n 0, 1) := dk_42 (dk_at dksX0_find_0 2 rfl rfl)
theorem dX0_find_3 : decode cX0_find 3 = .ok (.iload_n 1, 1) := dk_27 (dk_at dksX0_find_0 3 rfl rfl)
theorem dX0_find_4 : decode cX0_find 4 = .ok (.invokevirtual 66, 3) := dk_182 0 66 (dk_at dksX0_find_0 4 rfl rfl)
theorem dX0_find_7 : decode cX0_find 7 = .ok (.i2l, 1) := dk_133 (dk_at dksX0_find_0 7 rfl rfl)
theorem dX0_find_8 : decode cX0_find 8 = .ok (.lastore, 1) := dk_80 (dk_at dksX0_find_0 8 rfl rfl)
theorem dX0_find_9 : decode cX0_find 9 = .ok (.goto 9, 3) := dk_167 0 9 (dk_at dksX0_find_0 9 rfl rfl)
theorem dX0_find_12 : decode cX0_find 12 = .ok (.astore_n 3, 1) := dk_78 (dk_at dksX0_find_0 12 rfl rfl)
theorem dX0_find_13 : decode cX0_find 13 = .ok (.iconst 1, 1) := dk_4 (dk_at dksX0_find_0 13 rfl rfl)
theorem dX0_find_14 : decode cX0_find 14 = .ok (.ireturn, 1) := dk_172 (dk_at dksX0_find_0 14 rfl rfl)
theorem dX0_find_15 : decode cX0_find 15 = .ok (.astore_n 3, 1) := dk_78 (dk_at dksX0_find_0 15 rfl rfl)
theorem dX0_find_16 : decode cX0_find 16 = .ok (.iconst 2, 1) := dk_5 (dk_at dksX0_find_0 16 rfl rfl)
theorem dX0_find_17 : decode cX0_find 17 = .ok (.ireturn, 1) := dk_172 (dk_at dksX0_find_0 17 rfl rfl)
theorem dX0_find_18 : decode cX0_find 18 = .ok (.iconst 0, 1) := dk_3 (dk_at dksX0_find_0 18 rfl rfl)
theorem dX0_find_19 : decode cX0_find 19 = .ok (.ireturn, 1) := dk_172 (dk_at dksX0_find_0 19 rfl rfl)
abbrev cX0_sell : ByteArray := method_19_code
def yX0_sell : MethodName := ⟨RX0, "sell", "(LPeacockLawns;I[J)I"⟩
def dkwX0_sell_0 : List UInt8 := [44, 3, 42, 27, 182, 0, 69, 133, 80, 167, 0, 9, 78, 4, 172, 78, 5, 172, 3, 172]
abbrev dktX0_sell_0 : List UInt8 := dkwX0_sell_0 ++ []
theorem dksX0_sell_0 : cX0_sell.data.toList.drop 0 = dktX0_sell_0 := by decide +kernel
theorem dX0_sell_0 : decode cX0_sell 0 = .ok (.aload_n 2, 1) := dk_44 (dk_at dksX0_sell_0 0 rfl rfl)
theorem dX0_sell_1 : decode cX0_sell 1 = .ok (.iconst 0, 1) := dk_3 (dk_at dksX0_sell_0 1 rfl rfl)
theorem dX0_sell_2 : decode cX0_sell 2 = .ok (.aload_n 0, 1) := dk_42 (dk_at dksX0_sell_0 2 rfl rfl)
theorem dX0_sell_3 : decode cX0_sell 3 = .ok (.iload_n 1, 1) := dk_27 (dk_at dksX0_sell_0 3 rfl rfl)
theorem dX0_sell_4 : decode cX0_sell 4 = .ok (.invokevirtual 69, 3) := dk_182 0 69 (dk_at dksX0_sell_0 4 rfl rfl)
theorem dX0_sell_7 : decode cX0_sell 7 = .ok (.i2l, 1) := dk_133 (dk_at dksX0_sell_0 7 rfl rfl)
theorem dX0_sell_8 : decode cX0_sell 8 = .ok (.lastore, 1) := dk_80 (dk_at dksX0_sell_0 8 rfl rfl)
theorem dX0_sell_9 : decode cX0_sell 9 = .ok (.goto 9, 3) := dk_167 0 9 (dk_at dksX0_sell_0 9 rfl rfl)
theorem dX0_sell_12 : decode cX0_sell 12 = .ok (.astore_n 3, 1) := dk_78 (dk_at dksX0_sell_0 12 rfl rfl)
theorem dX0_sell_13 : decode cX0_sell 13 = .ok (.iconst 1, 1) := dk_4 (dk_at dksX0_sell_0 13 rfl rfl)
theorem dX0_sell_14 : decode cX0_sell 14 = .ok (.ireturn, 1) := dk_172 (dk_at dksX0_sell_0 14 rfl rfl)
theorem dX0_sell_15 : decode cX0_sell 15 = .ok (.astore_n 3, 1) := dk_78 (dk_at dksX0_sell_0 15 rfl rfl)
theorem dX0_sell_16 : decode cX0_sell 16 = .ok (.iconst 2, 1) := dk_5 (dk_at dksX0_sell_0 16 rfl rfl)
theorem dX0_sell_17 : decode cX0_sell 17 = .ok (.ireturn, 1) := dk_172 (dk_at dksX0_sell_0 17 rfl rfl)
theorem dX0_sell_18 : decode cX0_sell 18 = .ok (.iconst 0, 1) := dk_3 (dk_at dksX0_sell_0 18 rfl rfl)
theorem dX0_sell_19 : decode cX0_sell 19 = .ok (.ireturn, 1) := dk_172 (dk_at dksX0_sell_0 19 rfl rfl)
abbrev cX0_bench : ByteArray := method_20_code
def yX0_bench : MethodName := ⟨RX0, "bench", "(LPeacockLawns;I[J)I"⟩
def dkwX0_bench_0 : List UInt8 := [44, 3, 42, 27, 182, 0, 72, 133, 80, 167, 0, 9, 78, 4, 172, 78, 5, 172, 3, 172]
abbrev dktX0_bench_0 : List UInt8 := dkwX0_bench_0 ++ []
theorem dksX0_bench_0 : cX0_bench.data.toList.drop 0 = dktX0_bench_0 := by decide +kernel
theorem dX0_bench_0 : decode cX0_bench 0 = .ok (.aload_n 2, 1) := dk_44 (dk_at dksX0_bench_0 0 rfl rfl)
theorem dX0_bench_1 : decode cX0_bench 1 = .ok (.iconst 0, 1) := dk_3 (dk_at dksX0_bench_0 1 rfl rfl)
theorem dX0_bench_2 : decode cX0_bench 2 = .ok (.aload_n 0, 1) := dk_42 (dk_at dksX0_bench_0 2 rfl rfl)
theorem dX0_bench_3 : decode cX0_bench 3 = .ok (.iload_n 1, 1) := dk_27 (dk_at dksX0_bench_0 3 rfl rfl)
theorem dX0_bench_4 : decode cX0_bench 4 = .ok (.invokevirtual 72, 3) := dk_182 0 72 (dk_at dksX0_bench_0 4 rfl rfl)
theorem dX0_bench_7 : decode cX0_bench 7 = .ok (.i2l, 1) := dk_133 (dk_at dksX0_bench_0 7 rfl rfl)
theorem dX0_bench_8 : decode cX0_bench 8 = .ok (.lastore, 1) := dk_80 (dk_at dksX0_bench_0 8 rfl rfl)
theorem dX0_bench_9 : decode cX0_bench 9 = .ok (.goto 9, 3) := dk_167 0 9 (dk_at dksX0_bench_0 9 rfl rfl)
theorem dX0_bench_12 : decode cX0_bench 12 = .ok (.astore_n 3, 1) := dk_78 (dk_at dksX0_bench_0 12 rfl rfl)
theorem dX0_bench_13 : decode cX0_bench 13 = .ok (.iconst 1, 1) := dk_4 (dk_at dksX0_bench_0 13 rfl rfl)
theorem dX0_bench_14 : decode cX0_bench 14 = .ok (.ireturn, 1) := dk_172 (dk_at dksX0_bench_0 14 rfl rfl)
theorem dX0_bench_15 : decode cX0_bench 15 = .ok (.astore_n 3, 1) := dk_78 (dk_at dksX0_bench_0 15 rfl rfl)
theorem dX0_bench_16 : decode cX0_bench 16 = .ok (.iconst 2, 1) := dk_5 (dk_at dksX0_bench_0 16 rfl rfl)
theorem dX0_bench_17 : decode cX0_bench 17 = .ok (.ireturn, 1) := dk_172 (dk_at dksX0_bench_0 17 rfl rfl)
theorem dX0_bench_18 : decode cX0_bench 18 = .ok (.iconst 0, 1) := dk_3 (dk_at dksX0_bench_0 18 rfl rfl)
theorem dX0_bench_19 : decode cX0_bench 19 = .ok (.ireturn, 1) := dk_172 (dk_at dksX0_bench_0 19 rfl rfl)
abbrev cX0_seat : ByteArray := method_21_code
def yX0_seat : MethodName := ⟨RX0, "seat", "(LPeacockLawns;II[J)I"⟩
def dkwX0_seat_1 : List UInt8 := [172, 3, 172]
abbrev dktX0_seat_1 : List UInt8 := dkwX0_seat_1 ++ []
def dkwX0_seat_0 : List UInt8 := [45, 3, 42, 27, 28, 182, 0, 75, 133, 80, 167, 0, 15, 58, 4, 4, 172, 58, 4, 5, 172, 58, 4, 6]
abbrev dktX0_seat_0 : List UInt8 := dkwX0_seat_0 ++ dktX0_seat_1
theorem dksX0_seat_0 : cX0_seat.data.toList.drop 0 = dktX0_seat_0 := by decide +kernel
theorem dksX0_seat_1 : cX0_seat.data.toList.drop 24 = dktX0_seat_1 := dk_seg dksX0_seat_0 24 rfl rfl
theorem dX0_seat_0 : decode cX0_seat 0 = .ok (.aload_n 3, 1) := dk_45 (dk_at dksX0_seat_0 0 rfl rfl)
theorem dX0_seat_1 : decode cX0_seat 1 = .ok (.iconst 0, 1) := dk_3 (dk_at dksX0_seat_0 1 rfl rfl)
theorem dX0_seat_2 : decode cX0_seat 2 = .ok (.aload_n 0, 1) := dk_42 (dk_at dksX0_seat_0 2 rfl rfl)
theorem dX0_seat_3 : decode cX0_seat 3 = .ok (.iload_n 1, 1) := dk_27 (dk_at dksX0_seat_0 3 rfl rfl)
theorem dX0_seat_4 : decode cX0_seat 4 = .ok (.iload_n 2, 1) := dk_28 (dk_at dksX0_seat_0 4 rfl rfl)
theorem dX0_seat_5 : decode cX0_seat 5 = .ok (.invokevirtual 75, 3) := dk_182 0 75 (dk_at dksX0_seat_0 5 rfl rfl)
theorem dX0_seat_8 : decode cX0_seat 8 = .ok (.i2l, 1) := dk_133 (dk_at dksX0_seat_0 8 rfl rfl)
theorem dX0_seat_9 : decode cX0_seat 9 = .ok (.lastore, 1) := dk_80 (dk_at dksX0_seat_0 9 rfl rfl)
theorem dX0_seat_10 : decode cX0_seat 10 = .ok (.goto 15, 3) := dk_167 0 15 (dk_at dksX0_seat_0 10 rfl rfl)
theorem dX0_seat_13 : decode cX0_seat 13 = .ok (.astore 4, 2) := dk_58 4 (dk_at dksX0_seat_0 13 rfl rfl)
theorem dX0_seat_15 : decode cX0_seat 15 = .ok (.iconst 1, 1) := dk_4 (dk_at dksX0_seat_0 15 rfl rfl)
theorem dX0_seat_16 : decode cX0_seat 16 = .ok (.ireturn, 1) := dk_172 (dk_at dksX0_seat_0 16 rfl rfl)
theorem dX0_seat_17 : decode cX0_seat 17 = .ok (.astore 4, 2) := dk_58 4 (dk_at dksX0_seat_0 17 rfl rfl)
theorem dX0_seat_19 : decode cX0_seat 19 = .ok (.iconst 2, 1) := dk_5 (dk_at dksX0_seat_0 19 rfl rfl)
theorem dX0_seat_20 : decode cX0_seat 20 = .ok (.ireturn, 1) := dk_172 (dk_at dksX0_seat_0 20 rfl rfl)
theorem dX0_seat_21 : decode cX0_seat 21 = .ok (.astore 4, 2) := dk_58 4 (dk_at dksX0_seat_0 21 rfl rfl)
theorem dX0_seat_23 : decode cX0_seat 23 = .ok (.iconst 3, 1) := dk_6 (dk_at dksX0_seat_0 23 rfl rfl)
theorem dX0_seat_24 : decode cX0_seat 24 = .ok (.ireturn, 1) := dk_172 (dk_at dksX0_seat_1 0 rfl rfl)
theorem dX0_seat_25 : decode cX0_seat 25 = .ok (.iconst 0, 1) := dk_3 (dk_at dksX0_seat_1 1 rfl rfl)
theorem dX0_seat_26 : decode cX0_seat 26 = .ok (.ireturn, 1) := dk_172 (dk_at dksX0_seat_1 2 rfl rfl)
abbrev cX0_benchOf : ByteArray := method_22_code
def yX0_benchOf : MethodName := ⟨RX0, "benchOf", "(LPeacockLawns;II[J)I"⟩
def dkwX0_benchOf_0 : List UInt8 := [45, 3, 42, 27, 28, 182, 0, 78, 133, 80, 167, 0, 11, 58, 4, 4, 172, 58, 4, 5, 172, 3, 172]
abbrev dktX0_benchOf_0 : List UInt8 := dkwX0_benchOf_0 ++ []
theorem dksX0_benchOf_0 : cX0_benchOf.data.toList.drop 0 = dktX0_benchOf_0 := by decide +kernel
theorem dX0_benchOf_0 : decode cX0_benchOf 0 = .ok (.aload_n 3, 1) := dk_45 (dk_at dksX0_benchOf_0 0 rfl rfl)
theorem dX0_benchOf_1 : decode cX0_benchOf 1 = .ok (.iconst 0, 1) := dk_3 (dk_at dksX0_benchOf_0 1 rfl rfl)
theorem dX0_benchOf_2 : decode cX0_benchOf 2 = .ok (.aload_n 0, 1) := dk_42 (dk_at dksX0_benchOf_0 2 rfl rfl)
theorem dX0_benchOf_3 : decode cX0_benchOf 3 = .ok (.iload_n 1, 1) := dk_27 (dk_at dksX0_benchOf_0 3 rfl rfl)
theorem dX0_benchOf_4 : decode cX0_benchOf 4 = .ok (.iload_n 2, 1) := dk_28 (dk_at dksX0_benchOf_0 4 rfl rfl)
theorem dX0_benchOf_5 : decode cX0_benchOf 5 = .ok (.invokevirtual 78, 3) := dk_182 0 78 (dk_at dksX0_benchOf_0 5 rfl rfl)
theorem dX0_benchOf_8 : decode cX0_benchOf 8 = .ok (.i2l, 1) := dk_133 (dk_at dksX0_benchOf_0 8 rfl rfl)
theorem dX0_benchOf_9 : decode cX0_benchOf 9 = .ok (.lastore, 1) := dk_80 (dk_at dksX0_benchOf_0 9 rfl rfl)
theorem dX0_benchOf_10 : decode cX0_benchOf 10 = .ok (.goto 11, 3) := dk_167 0 11 (dk_at dksX0_benchOf_0 10 rfl rfl)
theorem dX0_benchOf_13 : decode cX0_benchOf 13 = .ok (.astore 4, 2) := dk_58 4 (dk_at dksX0_benchOf_0 13 rfl rfl)
theorem dX0_benchOf_15 : decode cX0_benchOf 15 = .ok (.iconst 1, 1) := dk_4 (dk_at dksX0_benchOf_0 15 rfl rfl)
theorem dX0_benchOf_16 : decode cX0_benchOf 16 = .ok (.ireturn, 1) := dk_172 (dk_at dksX0_benchOf_0 16 rfl rfl)
theorem dX0_benchOf_17 : decode cX0_benchOf 17 = .ok (.astore 4, 2) := dk_58 4 (dk_at dksX0_benchOf_0 17 rfl rfl)
theorem dX0_benchOf_19 : decode cX0_benchOf 19 = .ok (.iconst 2, 1) := dk_5 (dk_at dksX0_benchOf_0 19 rfl rfl)
theorem dX0_benchOf_20 : decode cX0_benchOf 20 = .ok (.ireturn, 1) := dk_172 (dk_at dksX0_benchOf_0 20 rfl rfl)
theorem dX0_benchOf_21 : decode cX0_benchOf 21 = .ok (.iconst 0, 1) := dk_3 (dk_at dksX0_benchOf_0 21 rfl rfl)
theorem dX0_benchOf_22 : decode cX0_benchOf 22 = .ok (.ireturn, 1) := dk_172 (dk_at dksX0_benchOf_0 22 rfl rfl)
abbrev cX0_pass : ByteArray := method_23_code
def yX0_pass : MethodName := ⟨RX0, "pass", "(LPeacockLawns;I[J)I"⟩
def dkwX0_pass_0 : List UInt8 := [44, 3, 42, 27, 182, 0, 81, 133, 80, 167, 0, 6, 78, 4, 172, 3, 172]
abbrev dktX0_pass_0 : List UInt8 := dkwX0_pass_0 ++ []
theorem dksX0_pass_0 : cX0_pass.data.toList.drop 0 = dktX0_pass_0 := by decide +kernel
theorem dX0_pass_0 : decode cX0_pass 0 = .ok (.aload_n 2, 1) := dk_44 (dk_at dksX0_pass_0 0 rfl rfl)
theorem dX0_pass_1 : decode cX0_pass 1 = .ok (.iconst 0, 1) := dk_3 (dk_at dksX0_pass_0 1 rfl rfl)
theorem dX0_pass_2 : decode cX0_pass 2 = .ok (.aload_n 0, 1) := dk_42 (dk_at dksX0_pass_0 2 rfl rfl)
theorem dX0_pass_3 : decode cX0_pass 3 = .ok (.iload_n 1, 1) := dk_27 (dk_at dksX0_pass_0 3 rfl rfl)
theorem dX0_pass_4 : decode cX0_pass 4 = .ok (.invokevirtual 81, 3) := dk_182 0 81 (dk_at dksX0_pass_0 4 rfl rfl)
theorem dX0_pass_7 : decode cX0_pass 7 = .ok (.i2l, 1) := dk_133 (dk_at dksX0_pass_0 7 rfl rfl)
theorem dX0_pass_8 : decode cX0_pass 8 = .ok (.lastore, 1) := dk_80 (dk_at dksX0_pass_0 8 rfl rfl)
theorem dX0_pass_9 : decode cX0_pass 9 = .ok (.goto 6, 3) := dk_167 0 6 (dk_at dksX0_pass_0 9 rfl rfl)
theorem dX0_pass_12 : decode cX0_pass 12 = .ok (.astore_n 3, 1) := dk_78 (dk_at dksX0_pass_0 12 rfl rfl)
theorem dX0_pass_13 : decode cX0_pass 13 = .ok (.iconst 1, 1) := dk_4 (dk_at dksX0_pass_0 13 rfl rfl)
theorem dX0_pass_14 : decode cX0_pass 14 = .ok (.ireturn, 1) := dk_172 (dk_at dksX0_pass_0 14 rfl rfl)
theorem dX0_pass_15 : decode cX0_pass 15 = .ok (.iconst 0, 1) := dk_3 (dk_at dksX0_pass_0 15 rfl rfl)
theorem dX0_pass_16 : decode cX0_pass 16 = .ok (.ireturn, 1) := dk_172 (dk_at dksX0_pass_0 16 rfl rfl)
abbrev cX0_hatchesIn : ByteArray := method_24_code
def yX0_hatchesIn : MethodName := ⟨RX0, "hatchesIn", "(LPeacockLawns;I[J)I"⟩
def dkwX0_hatchesIn_0 : List UInt8 := [44, 3, 42, 27, 182, 0, 84, 133, 80, 167, 0, 9, 78, 4, 172, 78, 5, 172, 3, 172]
abbrev dktX0_hatchesIn_0 : List UInt8 := dkwX0_hatchesIn_0 ++ []
theorem dksX0_hatchesIn_0 : cX0_hatchesIn.data.toList.drop 0 = dktX0_hatchesIn_0 := by decide +kernel
theorem dX0_hatchesIn_0 : decode cX0_hatchesIn 0 = .ok (.aload_n 2, 1) := dk_44 (dk_at dksX0_hatchesIn_0 0 rfl rfl)
theorem dX0_hatchesIn_1 : decode cX0_hatchesIn 1 = .ok (.iconst 0, 1) := dk_3 (dk_at dksX0_hatchesIn_0 1 rfl rfl)
theorem dX0_hatchesIn_2 : decode cX0_hatchesIn 2 = .ok (.aload_n 0, 1) := dk_42 (dk_at dksX0_hatchesIn_0 2 rfl rfl)
theorem dX0_hatchesIn_3 : decode cX0_hatchesIn 3 = .ok (.iload_n 1, 1) := dk_27 (dk_at dksX0_hatchesIn_0 3 rfl rfl)
theorem dX0_hatchesIn_4 : decode cX0_hatchesIn 4 = .ok (.invokevirtual 84, 3) := dk_182 0 84 (dk_at dksX0_hatchesIn_0 4 rfl rfl)
theorem dX0_hatchesIn_7 : decode cX0_hatchesIn 7 = .ok (.i2l, 1) := dk_133 (dk_at dksX0_hatchesIn_0 7 rfl rfl)
theorem dX0_hatchesIn_8 : decode cX0_hatchesIn 8 = .ok (.lastore, 1) := dk_80 (dk_at dksX0_hatchesIn_0 8 rfl rfl)
theorem dX0_hatchesIn_9 : decode cX0_hatchesIn 9 = .ok (.goto 9, 3) := dk_167 0 9 (dk_at dksX0_hatchesIn_0 9 rfl rfl)
theorem dX0_hatchesIn_12 : decode cX0_hatchesIn 12 = .ok (.astore_n 3, 1) := dk_78 (dk_at dksX0_hatchesIn_0 12 rfl rfl)
theorem dX0_hatchesIn_13 : decode cX0_hatchesIn 13 = .ok (.iconst 1, 1) := dk_4 (dk_at dksX0_hatchesIn_0 13 rfl rfl)
theorem dX0_hatchesIn_14 : decode cX0_hatchesIn 14 = .ok (.ireturn, 1) := dk_172 (dk_at dksX0_hatchesIn_0 14 rfl rfl)
theorem dX0_hatchesIn_15 : decode cX0_hatchesIn 15 = .ok (.astore_n 3, 1) := dk_78 (dk_at dksX0_hatchesIn_0 15 rfl rfl)
theorem dX0_hatchesIn_16 : decode cX0_hatchesIn 16 = .ok (.iconst 2, 1) := dk_5 (dk_at dksX0_hatchesIn_0 16 rfl rfl)
theorem dX0_hatchesIn_17 : decode cX0_hatchesIn 17 = .ok (.ireturn, 1) := dk_172 (dk_at dksX0_hatchesIn_0 17 rfl rfl)
theorem dX0_hatchesIn_18 : decode cX0_hatchesIn 18 = .ok (.iconst 0, 1) := dk_3 (dk_at dksX0_hatchesIn_0 18 rfl rfl)
theorem dX0_hatchesIn_19 : decode cX0_hatchesIn 19 = .ok (.ireturn, 1) := dk_172 (dk_at dksX0_hatchesIn_0 19 rfl rfl)
abbrev cX0_wouldShed : ByteArray := method_25_code
def yX0_wouldShed : MethodName := ⟨RX0, "wouldShed", "(LPeacockLawns;I[J)I"⟩
def dkwX0_wouldShed_0 : List UInt8 := [44, 3, 42, 27, 182, 0, 87, 133, 80, 167, 0, 6, 78, 4, 172, 3, 172]
abbrev dktX0_wouldShed_0 : List UInt8 := dkwX0_wouldShed_0 ++ []
theorem dksX0_wouldShed_0 : cX0_wouldShed.data.toList.drop 0 = dktX0_wouldShed_0 := by decide +kernel
theorem dX0_wouldShed_0 : decode cX0_wouldShed 0 = .ok (.aload_n 2, 1) := dk_44 (dk_at dksX0_wouldShed_0 0 rfl rfl)
theorem dX0_wouldShed_1 : decode cX0_wouldShed 1 = .ok (.iconst 0, 1) := dk_3 (dk_at dksX0_wouldShed_0 1 rfl rfl)
theorem dX0_wouldShed_2 : decode cX0_wouldShed 2 = .ok (.aload_n 0, 1) := dk_42 (dk_at dksX0_wouldShed_0 2 rfl rfl)
theorem dX0_wouldShed_3 : decode cX0_wouldShed 3 = .ok (.iload_n 1, 1) := dk_27 (dk_at dksX0_wouldShed_0 3 rfl rfl)
theorem dX0_wouldShed_4 : decode cX0_wouldShed 4 = .ok (.invokevirtual 87, 3) := dk_182 0 87 (dk_at dksX0_wouldShed_0 4 rfl rfl)
theorem dX0_wouldShed_7 : decode cX0_wouldShed 7 = .ok (.i2l, 1) := dk_133 (dk_at dksX0_wouldShed_0 7 rfl rfl)
theorem dX0_wouldShed_8 : decode cX0_wouldShed 8 = .ok (.lastore, 1) := dk_80 (dk_at dksX0_wouldShed_0 8 rfl rfl)
theorem dX0_wouldShed_9 : decode cX0_wouldShed 9 = .ok (.goto 6, 3) := dk_167 0 6 (dk_at dksX0_wouldShed_0 9 rfl rfl)
theorem dX0_wouldShed_12 : decode cX0_wouldShed 12 = .ok (.astore_n 3, 1) := dk_78 (dk_at dksX0_wouldShed_0 12 rfl rfl)
theorem dX0_wouldShed_13 : decode cX0_wouldShed 13 = .ok (.iconst 1, 1) := dk_4 (dk_at dksX0_wouldShed_0 13 rfl rfl)
theorem dX0_wouldShed_14 : decode cX0_wouldShed 14 = .ok (.ireturn, 1) := dk_172 (dk_at dksX0_wouldShed_0 14 rfl rfl)
theorem dX0_wouldShed_15 : decode cX0_wouldShed 15 = .ok (.iconst 0, 1) := dk_3 (dk_at dksX0_wouldShed_0 15 rfl rfl)
theorem dX0_wouldShed_16 : decode cX0_wouldShed 16 = .ok (.ireturn, 1) := dk_172 (dk_at dksX0_wouldShed_0 16 rfl rfl)
abbrev cX0_line : ByteArray := method_26_code
def yX0_line : MethodName := ⟨RX0, "line", "(LPeacockLawns;I[J)I"⟩
def dkwX0_line_0 : List UInt8 := [44, 3, 42, 27, 182, 0, 90, 133, 80, 167, 0, 6, 78, 4, 172, 3, 172]
abbrev dktX0_line_0 : List UInt8 := dkwX0_line_0 ++ []
theorem dksX0_line_0 : cX0_line.data.toList.drop 0 = dktX0_line_0 := by decide +kernel
theorem dX0_line_0 : decode cX0_line 0 = .ok (.aload_n 2, 1) := dk_44 (dk_at dksX0_line_0 0 rfl rfl)
theorem dX0_line_1 : decode cX0_line 1 = .ok (.iconst 0, 1) := dk_3 (dk_at dksX0_line_0 1 rfl rfl)
theorem dX0_line_2 : decode cX0_line 2 = .ok (.aload_n 0, 1) := dk_42 (dk_at dksX0_line_0 2 rfl rfl)
theorem dX0_line_3 : decode cX0_line 3 = .ok (.iload_n 1, 1) := dk_27 (dk_at dksX0_line_0 3 rfl rfl)
theorem dX0_line_4 : decode cX0_line 4 = .ok (.invokevirtual 90, 3) := dk_182 0 90 (dk_at dksX0_line_0 4 rfl rfl)
theorem dX0_line_7 : decode cX0_line 7 = .ok (.i2l, 1) := dk_133 (dk_at dksX0_line_0 7 rfl rfl)
theorem dX0_line_8 : decode cX0_line 8 = .ok (.lastore, 1) := dk_80 (dk_at dksX0_line_0 8 rfl rfl)
theorem dX0_line_9 : decode cX0_line 9 = .ok (.goto 6, 3) := dk_167 0 6 (dk_at dksX0_line_0 9 rfl rfl)
theorem dX0_line_12 : decode cX0_line 12 = .ok (.astore_n 3, 1) := dk_78 (dk_at dksX0_line_0 12 rfl rfl)
theorem dX0_line_13 : decode cX0_line 13 = .ok (.iconst 1, 1) := dk_4 (dk_at dksX0_line_0 13 rfl rfl)
theorem dX0_line_14 : decode cX0_line 14 = .ok (.ireturn, 1) := dk_172 (dk_at dksX0_line_0 14 rfl rfl)
theorem dX0_line_15 : decode cX0_line 15 = .ok (.iconst 0, 1) := dk_3 (dk_at dksX0_line_0 15 rfl rfl)
theorem dX0_line_16 : decode cX0_line 16 = .ok (.ireturn, 1) := dk_172 (dk_at dksX0_line_0 16 rfl rfl)
abbrev cX0_character : ByteArray := method_27_code
def yX0_character : MethodName := ⟨RX0, "character", "(LPeacockLawns;I[J)I"⟩
def dkwX0_character_0 : List UInt8 := [44, 3, 42, 27, 182, 0, 93, 133, 80, 167, 0, 6, 78, 4, 172, 3, 172]
abbrev dktX0_character_0 : List UInt8 := dkwX0_character_0 ++ []
theorem dksX0_character_0 : cX0_character.data.toList.drop 0 = dktX0_character_0 := by decide +kernel
theorem dX0_character_0 : decode cX0_character 0 = .ok (.aload_n 2, 1) := dk_44 (dk_at dksX0_character_0 0 rfl rfl)
theorem dX0_character_1 : decode cX0_character 1 = .ok (.iconst 0, 1) := dk_3 (dk_at dksX0_character_0 1 rfl rfl)
theorem dX0_character_2 : decode cX0_character 2 = .ok (.aload_n 0, 1) := dk_42 (dk_at dksX0_character_0 2 rfl rfl)
theorem dX0_character_3 : decode cX0_character 3 = .ok (.iload_n 1, 1) := dk_27 (dk_at dksX0_character_0 3 rfl rfl)
theorem dX0_character_4 : decode cX0_character 4 = .ok (.invokevirtual 93, 3) := dk_182 0 93 (dk_at dksX0_character_0 4 rfl rfl)
theorem dX0_character_7 : decode cX0_character 7 = .ok (.i2l, 1) := dk_133 (dk_at dksX0_character_0 7 rfl rfl)
theorem dX0_character_8 : decode cX0_character 8 = .ok (.lastore, 1) := dk_80 (dk_at dksX0_character_0 8 rfl rfl)
theorem dX0_character_9 : decode cX0_character 9 = .ok (.goto 6, 3) := dk_167 0 6 (dk_at dksX0_character_0 9 rfl rfl)
theorem dX0_character_12 : decode cX0_character 12 = .ok (.astore_n 3, 1) := dk_78 (dk_at dksX0_character_0 12 rfl rfl)
theorem dX0_character_13 : decode cX0_character 13 = .ok (.iconst 1, 1) := dk_4 (dk_at dksX0_character_0 13 rfl rfl)
theorem dX0_character_14 : decode cX0_character 14 = .ok (.ireturn, 1) := dk_172 (dk_at dksX0_character_0 14 rfl rfl)
theorem dX0_character_15 : decode cX0_character 15 = .ok (.iconst 0, 1) := dk_3 (dk_at dksX0_character_0 15 rfl rfl)
theorem dX0_character_16 : decode cX0_character 16 = .ok (.ireturn, 1) := dk_172 (dk_at dksX0_character_0 16 rfl rfl)
abbrev cX0_number : ByteArray := method_28_code
def yX0_number : MethodName := ⟨RX0, "number", "(LPeacockLawns;I[J)I"⟩
def dkwX0_number_0 : List UInt8 := [44, 3, 42, 27, 182, 0, 97, 133, 80, 167, 0, 6, 78, 4, 172, 3, 172]
abbrev dktX0_number_0 : List UInt8 := dkwX0_number_0 ++ []
theorem dksX0_number_0 : cX0_number.data.toList.drop 0 = dktX0_number_0 := by decide +kernel
theorem dX0_number_0 : decode cX0_number 0 = .ok (.aload_n 2, 1) := dk_44 (dk_at dksX0_number_0 0 rfl rfl)
theorem dX0_number_1 : decode cX0_number 1 = .ok (.iconst 0, 1) := dk_3 (dk_at dksX0_number_0 1 rfl rfl)
theorem dX0_number_2 : decode cX0_number 2 = .ok (.aload_n 0, 1) := dk_42 (dk_at dksX0_number_0 2 rfl rfl)
theorem dX0_number_3 : decode cX0_number 3 = .ok (.iload_n 1, 1) := dk_27 (dk_at dksX0_number_0 3 rfl rfl)
theorem dX0_number_4 : decode cX0_number 4 = .ok (.invokevirtual 97, 3) := dk_182 0 97 (dk_at dksX0_number_0 4 rfl rfl)
theorem dX0_number_7 : decode cX0_number 7 = .ok (.i2l, 1) := dk_133 (dk_at dksX0_number_0 7 rfl rfl)
theorem dX0_number_8 : decode cX0_number 8 = .ok (.lastore, 1) := dk_80 (dk_at dksX0_number_0 8 rfl rfl)
theorem dX0_number_9 : decode cX0_number 9 = .ok (.goto 6, 3) := dk_167 0 6 (dk_at dksX0_number_0 9 rfl rfl)
theorem dX0_number_12 : decode cX0_number 12 = .ok (.astore_n 3, 1) := dk_78 (dk_at dksX0_number_0 12 rfl rfl)
theorem dX0_number_13 : decode cX0_number 13 = .ok (.iconst 1, 1) := dk_4 (dk_at dksX0_number_0 13 rfl rfl)
theorem dX0_number_14 : decode cX0_number 14 = .ok (.ireturn, 1) := dk_172 (dk_at dksX0_number_0 14 rfl rfl)
theorem dX0_number_15 : decode cX0_number 15 = .ok (.iconst 0, 1) := dk_3 (dk_at dksX0_number_0 15 rfl rfl)
theorem dX0_number_16 : decode cX0_number 16 = .ok (.ireturn, 1) := dk_172 (dk_at dksX0_number_0 16 rfl rfl)
abbrev cX0_foundShare : ByteArray := method_29_code
def yX0_foundShare : MethodName := ⟨RX0, "foundShare", "(LPeacockLawns;[D)I"⟩
def dkwX0_foundShare_0 : List UInt8 := [43, 3, 42, 182, 0, 100, 141, 82, 167, 0, 6, 77, 4, 172, 3, 172]
abbrev dktX0_foundShare_0 : List UInt8 := dkwX0_foundShare_0 ++ []
theorem dksX0_foundShare_0 : cX0_foundShare.data.toList.drop 0 = dktX0_foundShare_0 := by decide +kernel
theorem dX0_foundShare_0 : decode cX0_foundShare 0 = .ok (.aload_n 1, 1) := dk_43 (dk_at dksX0_foundShare_0 0 rfl rfl)
theorem dX0_foundShare_1 : decode cX0_foundShare 1 = .ok (.iconst 0, 1) := dk_3 (dk_at dksX0_foundShare_0 1 rfl rfl)
theorem dX0_foundShare_2 : decode cX0_foundShare 2 = .ok (.aload_n 0, 1) := dk_42 (dk_at dksX0_foundShare_0 2 rfl rfl)
theorem dX0_foundShare_3 : decode cX0_foundShare 3 = .ok (.invokevirtual 100, 3) := dk_182 0 100 (dk_at dksX0_foundShare_0 3 rfl rfl)
theorem dX0_foundShare_6 : decode cX0_foundShare 6 = .ok (.f2d, 1) := dk_141 (dk_at dksX0_foundShare_0 6 rfl rfl)
theorem dX0_foundShare_7 : decode cX0_foundShare 7 = .ok (.dastore, 1) := dk_82 (dk_at dksX0_foundShare_0 7 rfl rfl)
theorem dX0_foundShare_8 : decode cX0_foundShare 8 = .ok (.goto 6, 3) := dk_167 0 6 (dk_at dksX0_foundShare_0 8 rfl rfl)
theorem dX0_foundShare_11 : decode cX0_foundShare 11 = .ok (.astore_n 2, 1) := dk_77 (dk_at dksX0_foundShare_0 11 rfl rfl)
theorem dX0_foundShare_12 : decode cX0_foundShare 12 = .ok (.iconst 1, 1) := dk_4 (dk_at dksX0_foundShare_0 12 rfl rfl)
theorem dX0_foundShare_13 : decode cX0_foundShare 13 = .ok (.ireturn, 1) := dk_172 (dk_at dksX0_foundShare_0 13 rfl rfl)
theorem dX0_foundShare_14 : decode cX0_foundShare 14 = .ok (.iconst 0, 1) := dk_3 (dk_at dksX0_foundShare_0 14 rfl rfl)
theorem dX0_foundShare_15 : decode cX0_foundShare 15 = .ok (.ireturn, 1) := dk_172 (dk_at dksX0_foundShare_0 15 rfl rfl)
abbrev cX0_feed : ByteArray := method_30_code
def yX0_feed : MethodName := ⟨RX0, "feed", "(LPeacockLawns;C[J)I"⟩
def dkwX0_feed_0 : List UInt8 := [44, 3, 42, 27, 182, 0, 106, 133, 80, 167, 0, 6, 78, 4, 172, 3, 172]
abbrev dktX0_feed_0 : List UInt8 := dkwX0_feed_0 ++ []
theorem dksX0_feed_0 : cX0_feed.data.toList.drop 0 = dktX0_feed_0 := by decide +kernel
theorem dX0_feed_0 : decode cX0_feed 0 = .ok (.aload_n 2, 1) := dk_44 (dk_at dksX0_feed_0 0 rfl rfl)
theorem dX0_feed_1 : decode cX0_feed 1 = .ok (.iconst 0, 1) := dk_3 (dk_at dksX0_feed_0 1 rfl rfl)
theorem dX0_feed_2 : decode cX0_feed 2 = .ok (.aload_n 0, 1) := dk_42 (dk_at dksX0_feed_0 2 rfl rfl)
theorem dX0_feed_3 : decode cX0_feed 3 = .ok (.iload_n 1, 1) := dk_27 (dk_at dksX0_feed_0 3 rfl rfl)
theorem dX0_feed_4 : decode cX0_feed 4 = .ok (.invokevirtual 106, 3) := dk_182 0 106 (dk_at dksX0_feed_0 4 rfl rfl)
theorem dX0_feed_7 : decode cX0_feed 7 = .ok (.i2l, 1) := dk_133 (dk_at dksX0_feed_0 7 rfl rfl)
theorem dX0_feed_8 : decode cX0_feed 8 = .ok (.lastore, 1) := dk_80 (dk_at dksX0_feed_0 8 rfl rfl)
theorem dX0_feed_9 : decode cX0_feed 9 = .ok (.goto 6, 3) := dk_167 0 6 (dk_at dksX0_feed_0 9 rfl rfl)
theorem dX0_feed_12 : decode cX0_feed 12 = .ok (.astore_n 3, 1) := dk_78 (dk_at dksX0_feed_0 12 rfl rfl)
theorem dX0_feed_13 : decode cX0_feed 13 = .ok (.iconst 1, 1) := dk_4 (dk_at dksX0_feed_0 13 rfl rfl)
theorem dX0_feed_14 : decode cX0_feed 14 = .ok (.ireturn, 1) := dk_172 (dk_at dksX0_feed_0 14 rfl rfl)
theorem dX0_feed_15 : decode cX0_feed 15 = .ok (.iconst 0, 1) := dk_3 (dk_at dksX0_feed_0 15 rfl rfl)
theorem dX0_feed_16 : decode cX0_feed 16 = .ok (.ireturn, 1) := dk_172 (dk_at dksX0_feed_0 16 rfl rfl)
abbrev cX0_read : ByteArray := method_31_code
def yX0_read : MethodName := ⟨RX0, "read", "(LPeacockLawns;[J)I"⟩
def dkwX0_read_0 : List UInt8 := [43, 3, 42, 182, 0, 112, 133, 80, 167, 0, 9, 77, 4, 172, 77, 5, 172, 3, 172]
abbrev dktX0_read_0 : List UInt8 := dkwX0_read_0 ++ []
theorem dksX0_read_0 : cX0_read.data.toList.drop 0 = dktX0_read_0 := by decide +kernel
theorem dX0_read_0 : decode cX0_read 0 = .ok (.aload_n 1, 1) := dk_43 (dk_at dksX0_read_0 0 rfl rfl)
theorem dX0_read_1 : decode cX0_read 1 = .ok (.iconst 0, 1) := dk_3 (dk_at dksX0_read_0 1 rfl rfl)
theorem dX0_read_2 : decode cX0_read 2 = .ok (.aload_n 0, 1) := dk_42 (dk_at dksX0_read_0 2 rfl rfl)
theorem dX0_read_3 : decode cX0_read 3 = .ok (.invokevirtual 112, 3) := dk_182 0 112 (dk_at dksX0_read_0 3 rfl rfl)
theorem dX0_read_6 : decode cX0_read 6 = .ok (.i2l, 1) := dk_133 (dk_at dksX0_read_0 6 rfl rfl)
theorem dX0_read_7 : decode cX0_read 7 = .ok (.lastore, 1) := dk_80 (dk_at dksX0_read_0 7 rfl rfl)
theorem dX0_read_8 : decode cX0_read 8 = .ok (.goto 9, 3) := dk_167 0 9 (dk_at dksX0_read_0 8 rfl rfl)
theorem dX0_read_11 : decode cX0_read 11 = .ok (.astore_n 2, 1) := dk_77 (dk_at dksX0_read_0 11 rfl rfl)
theorem dX0_read_12 : decode cX0_read 12 = .ok (.iconst 1, 1) := dk_4 (dk_at dksX0_read_0 12 rfl rfl)
theorem dX0_read_13 : decode cX0_read 13 = .ok (.ireturn, 1) := dk_172 (dk_at dksX0_read_0 13 rfl rfl)
theorem dX0_read_14 : decode cX0_read 14 = .ok (.astore_n 2, 1) := dk_77 (dk_at dksX0_read_0 14 rfl rfl)
theorem dX0_read_15 : decode cX0_read 15 = .ok (.iconst 2, 1) := dk_5 (dk_at dksX0_read_0 15 rfl rfl)
theorem dX0_read_16 : decode cX0_read 16 = .ok (.ireturn, 1) := dk_172 (dk_at dksX0_read_0 16 rfl rfl)
theorem dX0_read_17 : decode cX0_read 17 = .ok (.iconst 0, 1) := dk_3 (dk_at dksX0_read_0 17 rfl rfl)
theorem dX0_read_18 : decode cX0_read 18 = .ok (.ireturn, 1) := dk_172 (dk_at dksX0_read_0 18 rfl rfl)
abbrev cX0_faultPosition : ByteArray := method_32_code
def yX0_faultPosition : MethodName := ⟨RX0, "faultPosition", "(LPeacockLawns;[J)I"⟩
def dkwX0_faultPosition_0 : List UInt8 := [43, 3, 42, 182, 0, 115, 133, 80, 167, 0, 6, 77, 4, 172, 3, 172]
abbrev dktX0_faultPosition_0 : List UInt8 := dkwX0_faultPosition_0 ++ []
theorem dksX0_faultPosition_0 : cX0_faultPosition.data.toList.drop 0 = dktX0_faultPosition_0 := by decide +kernel
theorem dX0_faultPosition_0 : decode cX0_faultPosition 0 = .ok (.aload_n 1, 1) := dk_43 (dk_at dksX0_faultPosition_0 0 rfl rfl)
theorem dX0_faultPosition_1 : decode cX0_faultPosition 1 = .ok (.iconst 0, 1) := dk_3 (dk_at dksX0_faultPosition_0 1 rfl rfl)
theorem dX0_faultPosition_2 : decode cX0_faultPosition 2 = .ok (.aload_n 0, 1) := dk_42 (dk_at dksX0_faultPosition_0 2 rfl rfl)
theorem dX0_faultPosition_3 : decode cX0_faultPosition 3 = .ok (.invokevirtual 115, 3) := dk_182 0 115 (dk_at dksX0_faultPosition_0 3 rfl rfl)
theorem dX0_faultPosition_6 : decode cX0_faultPosition 6 = .ok (.i2l, 1) := dk_133 (dk_at dksX0_faultPosition_0 6 rfl rfl)
theorem dX0_faultPosition_7 : decode cX0_faultPosition 7 = .ok (.lastore, 1) := dk_80 (dk_at dksX0_faultPosition_0 7 rfl rfl)
theorem dX0_faultPosition_8 : decode cX0_faultPosition 8 = .ok (.goto 6, 3) := dk_167 0 6 (dk_at dksX0_faultPosition_0 8 rfl rfl)
theorem dX0_faultPosition_11 : decode cX0_faultPosition 11 = .ok (.astore_n 2, 1) := dk_77 (dk_at dksX0_faultPosition_0 11 rfl rfl)
theorem dX0_faultPosition_12 : decode cX0_faultPosition 12 = .ok (.iconst 1, 1) := dk_4 (dk_at dksX0_faultPosition_0 12 rfl rfl)
theorem dX0_faultPosition_13 : decode cX0_faultPosition 13 = .ok (.ireturn, 1) := dk_172 (dk_at dksX0_faultPosition_0 13 rfl rfl)
theorem dX0_faultPosition_14 : decode cX0_faultPosition 14 = .ok (.iconst 0, 1) := dk_3 (dk_at dksX0_faultPosition_0 14 rfl rfl)
theorem dX0_faultPosition_15 : decode cX0_faultPosition 15 = .ok (.ireturn, 1) := dk_172 (dk_at dksX0_faultPosition_0 15 rfl rfl)
abbrev cX0_refusal : ByteArray := method_33_code
def yX0_refusal : MethodName := ⟨RX0, "refusal", "(LPeacockLawns;IZ[J)I"⟩
def dkwX0_refusal_0 : List UInt8 := [45, 3, 42, 27, 28, 182, 0, 118, 133, 80, 167, 0, 11, 58, 4, 4, 172, 58, 4, 5, 172, 3, 172]
abbrev dktX0_refusal_0 : List UInt8 := dkwX0_refusal_0 ++ []
theorem dksX0_refusal_0 : cX0_refusal.data.toList.drop 0 = dktX0_refusal_0 := by decide +kernel
theorem dX0_refusal_0 : decode cX0_refusal 0 = .ok (.aload_n 3, 1) := dk_45 (dk_at dksX0_refusal_0 0 rfl rfl)
theorem dX0_refusal_1 : decode cX0_refusal 1 = .ok (.iconst 0, 1) := dk_3 (dk_at dksX0_refusal_0 1 rfl rfl)
theorem dX0_refusal_2 : decode cX0_refusal 2 = .ok (.aload_n 0, 1) := dk_42 (dk_at dksX0_refusal_0 2 rfl rfl)
theorem dX0_refusal_3 : decode cX0_refusal 3 = .ok (.iload_n 1, 1) := dk_27 (dk_at dksX0_refusal_0 3 rfl rfl)
theorem dX0_refusal_4 : decode cX0_refusal 4 = .ok (.iload_n 2, 1) := dk_28 (dk_at dksX0_refusal_0 4 rfl rfl)
theorem dX0_refusal_5 : decode cX0_refusal 5 = .ok (.invokevirtual 118, 3) := dk_182 0 118 (dk_at dksX0_refusal_0 5 rfl rfl)
theorem dX0_refusal_8 : decode cX0_refusal 8 = .ok (.i2l, 1) := dk_133 (dk_at dksX0_refusal_0 8 rfl rfl)
theorem dX0_refusal_9 : decode cX0_refusal 9 = .ok (.lastore, 1) := dk_80 (dk_at dksX0_refusal_0 9 rfl rfl)
theorem dX0_refusal_10 : decode cX0_refusal 10 = .ok (.goto 11, 3) := dk_167 0 11 (dk_at dksX0_refusal_0 10 rfl rfl)
theorem dX0_refusal_13 : decode cX0_refusal 13 = .ok (.astore 4, 2) := dk_58 4 (dk_at dksX0_refusal_0 13 rfl rfl)
theorem dX0_refusal_15 : decode cX0_refusal 15 = .ok (.iconst 1, 1) := dk_4 (dk_at dksX0_refusal_0 15 rfl rfl)
theorem dX0_refusal_16 : decode cX0_refusal 16 = .ok (.ireturn, 1) := dk_172 (dk_at dksX0_refusal_0 16 rfl rfl)
theorem dX0_refusal_17 : decode cX0_refusal 17 = .ok (.astore 4, 2) := dk_58 4 (dk_at dksX0_refusal_0 17 rfl rfl)
theorem dX0_refusal_19 : decode cX0_refusal 19 = .ok (.iconst 2, 1) := dk_5 (dk_at dksX0_refusal_0 19 rfl rfl)
theorem dX0_refusal_20 : decode cX0_refusal 20 = .ok (.ireturn, 1) := dk_172 (dk_at dksX0_refusal_0 20 rfl rfl)
theorem dX0_refusal_21 : decode cX0_refusal 21 = .ok (.iconst 0, 1) := dk_3 (dk_at dksX0_refusal_0 21 rfl rfl)
theorem dX0_refusal_22 : decode cX0_refusal 22 = .ok (.ireturn, 1) := dk_172 (dk_at dksX0_refusal_0 22 rfl rfl)
abbrev cX0_undo : ByteArray := method_34_code
def yX0_undo : MethodName := ⟨RX0, "undo", "(LPeacockLawns;[J)I"⟩
def dkwX0_undo_0 : List UInt8 := [43, 3, 42, 182, 0, 122, 133, 80, 167, 0, 6, 77, 4, 172, 3, 172]
abbrev dktX0_undo_0 : List UInt8 := dkwX0_undo_0 ++ []
theorem dksX0_undo_0 : cX0_undo.data.toList.drop 0 = dktX0_undo_0 := by decide +kernel
theorem dX0_undo_0 : decode cX0_undo 0 = .ok (.aload_n 1, 1) := dk_43 (dk_at dksX0_undo_0 0 rfl rfl)
theorem dX0_undo_1 : decode cX0_undo 1 = .ok (.iconst 0, 1) := dk_3 (dk_at dksX0_undo_0 1 rfl rfl)
theorem dX0_undo_2 : decode cX0_undo 2 = .ok (.aload_n 0, 1) := dk_42 (dk_at dksX0_undo_0 2 rfl rfl)
theorem dX0_undo_3 : decode cX0_undo 3 = .ok (.invokevirtual 122, 3) := dk_182 0 122 (dk_at dksX0_undo_0 3 rfl rfl)
theorem dX0_undo_6 : decode cX0_undo 6 = .ok (.i2l, 1) := dk_133 (dk_at dksX0_undo_0 6 rfl rfl)
theorem dX0_undo_7 : decode cX0_undo 7 = .ok (.lastore, 1) := dk_80 (dk_at dksX0_undo_0 7 rfl rfl)
theorem dX0_undo_8 : decode cX0_undo 8 = .ok (.goto 6, 3) := dk_167 0 6 (dk_at dksX0_undo_0 8 rfl rfl)
theorem dX0_undo_11 : decode cX0_undo 11 = .ok (.astore_n 2, 1) := dk_77 (dk_at dksX0_undo_0 11 rfl rfl)
theorem dX0_undo_12 : decode cX0_undo 12 = .ok (.iconst 1, 1) := dk_4 (dk_at dksX0_undo_0 12 rfl rfl)
theorem dX0_undo_13 : decode cX0_undo 13 = .ok (.ireturn, 1) := dk_172 (dk_at dksX0_undo_0 13 rfl rfl)
theorem dX0_undo_14 : decode cX0_undo 14 = .ok (.iconst 0, 1) := dk_3 (dk_at dksX0_undo_0 14 rfl rfl)
theorem dX0_undo_15 : decode cX0_undo 15 = .ok (.ireturn, 1) := dk_172 (dk_at dksX0_undo_0 15 rfl rfl)
abbrev cX0_restoreSnapshot : ByteArray := method_35_code
def yX0_restoreSnapshot : MethodName := ⟨RX0, "restoreSnapshot", "(LPeacockLawns;[J)I"⟩
def dkwX0_restoreSnapshot_0 : List UInt8 := [43, 3, 42, 182, 0, 125, 133, 80, 167, 0, 6, 77, 4, 172, 3, 172]
abbrev dktX0_restoreSnapshot_0 : List UInt8 := dkwX0_restoreSnapshot_0 ++ []
theorem dksX0_restoreSnapshot_0 : cX0_restoreSnapshot.data.toList.drop 0 = dktX0_restoreSnapshot_0 := by decide +kernel
theorem dX0_restoreSnapshot_0 : decode cX0_restoreSnapshot 0 = .ok (.aload_n 1, 1) := dk_43 (dk_at dksX0_restoreSnapshot_0 0 rfl rfl)
theorem dX0_restoreSnapshot_1 : decode cX0_restoreSnapshot 1 = .ok (.iconst 0, 1) := dk_3 (dk_at dksX0_restoreSnapshot_0 1 rfl rfl)
theorem dX0_restoreSnapshot_2 : decode cX0_restoreSnapshot 2 = .ok (.aload_n 0, 1) := dk_42 (dk_at dksX0_restoreSnapshot_0 2 rfl rfl)
theorem dX0_restoreSnapshot_3 : decode cX0_restoreSnapshot 3 = .ok (.invokevirtual 125, 3) := dk_182 0 125 (dk_at dksX0_restoreSnapshot_0 3 rfl rfl)
theorem dX0_restoreSnapshot_6 : decode cX0_restoreSnapshot 6 = .ok (.i2l, 1) := dk_133 (dk_at dksX0_restoreSnapshot_0 6 rfl rfl)
theorem dX0_restoreSnapshot_7 : decode cX0_restoreSnapshot 7 = .ok (.lastore, 1) := dk_80 (dk_at dksX0_restoreSnapshot_0 7 rfl rfl)
theorem dX0_restoreSnapshot_8 : decode cX0_restoreSnapshot 8 = .ok (.goto 6, 3) := dk_167 0 6 (dk_at dksX0_restoreSnapshot_0 8 rfl rfl)
theorem dX0_restoreSnapshot_11 : decode cX0_restoreSnapshot 11 = .ok (.astore_n 2, 1) := dk_77 (dk_at dksX0_restoreSnapshot_0 11 rfl rfl)
theorem dX0_restoreSnapshot_12 : decode cX0_restoreSnapshot 12 = .ok (.iconst 1, 1) := dk_4 (dk_at dksX0_restoreSnapshot_0 12 rfl rfl)
theorem dX0_restoreSnapshot_13 : decode cX0_restoreSnapshot 13 = .ok (.ireturn, 1) := dk_172 (dk_at dksX0_restoreSnapshot_0 13 rfl rfl)
theorem dX0_restoreSnapshot_14 : decode cX0_restoreSnapshot 14 = .ok (.iconst 0, 1) := dk_3 (dk_at dksX0_restoreSnapshot_0 14 rfl rfl)
theorem dX0_restoreSnapshot_15 : decode cX0_restoreSnapshot 15 = .ok (.ireturn, 1) := dk_172 (dk_at dksX0_restoreSnapshot_0 15 rfl rfl)
theorem q79 : (Jvm.Cond.initialized "PeacockLawnsLaw") ∈ lw_all := lw_g (lw_at lw_m1 0 rfl) rfl
theorem q120 : (Jvm.Cond.classLink "PeacockLawnsLaw" (8 : Nat) "PeacockLawns") ∈ lw_all := lw_g (lw_at lw_m1 41 rfl) rfl
theorem q122 : (Jvm.Cond.methodLink "PeacockLawnsLaw" (128 : Nat) ({ cls := "PeacockLawns", name := "<init>", desc := "()V" } : Jvm.MethodName)) ∈ lw_all := lw_g (lw_at lw_m1 43 rfl) rfl
theorem q303 : (Jvm.Cond.methodLink "PeacockLawnsLaw" (158 : Nat) ({ cls := "PeacockLawns", name := "fox", desc := "()I" } : Jvm.MethodName)) ∈ lw_all := lw_g (lw_at lw_m1 224 rfl) rfl
theorem q307 : (Jvm.Cond.methodLink "PeacockLawnsLaw" (214 : Nat) ({ cls := "PeacockLawns", name := "noise", desc := "()I" } : Jvm.MethodName)) ∈ lw_all := lw_g (lw_at lw_m1 228 rfl) rfl
theorem q453 : (Jvm.Cond.methodLink "PeacockLawnsLaw" (227 : Nat) ({ cls := "PeacockLawns", name := "shedAgain", desc := "()I" } : Jvm.MethodName)) ∈ lw_all := lw_g (lw_at lw_m2 134 rfl) rfl
theorem q460 : (Jvm.Cond.methodLink "PeacockLawnsLaw" (231 : Nat) ({ cls := "PeacockLawns", name := "meanHeight", desc := "()D" } : Jvm.MethodName)) ∈ lw_all := lw_g (lw_at lw_m2 141 rfl) rfl
theorem q465 : (Jvm.Cond.methodLink "PeacockLawnsLaw" (257 : Nat) ({ cls := "PeacockLawns", name := "saveSnapshot", desc := "()I" } : Jvm.MethodName)) ∈ lw_all := lw_g (lw_at lw_m2 146 rfl) rfl
theorem q799 : (Jvm.Cond.methodLink "PeacockLawnsLaw" (132 : Nat) ({ cls := "PeacockLawnsLaw", name := "cock", desc := "(LPeacockLawns;III[J)I" } : Jvm.MethodName)) ∈ lw_all := lw_g (lw_at lw_m4 0 rfl) rfl
theorem q800 : (Jvm.Cond.static ({ cls := "PeacockLawnsLaw", name := "cock", desc := "(LPeacockLawns;III[J)I" } : Jvm.MethodName)) ∈ lw_all := lw_g (lw_at lw_m4 1 rfl) rfl
theorem q801 : (Jvm.Cond.codeWith ({ cls := "PeacockLawnsLaw", name := "cock", desc := "(LPeacockLawns;III[J)I" } : Jvm.MethodName) method_3_code (6 : Nat) (Option.some Jvm.ClassFile.FieldType.int) [((0 : Nat), (12 : Nat), (15 : Nat), (13 : Nat)), ((0 : Nat), (12 : Nat), (19 : Nat), (15 : Nat)), ((0 : Nat), (12 : Nat), (23 : Nat), (17 : Nat))]) ∈ lw_all := lw_g (lw_at lw_m4 2 rfl) rfl
theorem q802 : (Jvm.Cond.classLink "PeacockLawnsLaw" (13 : Nat) "java/lang/IndexOutOfBoundsException") ∈ lw_all := lw_g (lw_at lw_m4 3 rfl) rfl
theorem q821 : (Jvm.Cond.classLink "PeacockLawnsLaw" (15 : Nat) "java/lang/IllegalArgumentException") ∈ lw_all := lw_g (lw_at lw_m4 22 rfl) rfl
theorem q822 : (Jvm.Cond.classLink "PeacockLawnsLaw" (17 : Nat) "java/lang/UnsupportedOperationException") ∈ lw_all := lw_g (lw_at lw_m4 23 rfl) rfl
theorem q823 : (Jvm.Cond.methodLink "PeacockLawnsLaw" (7 : Nat) ({ cls := "PeacockLawns", name := "cock", desc := "(III)I" } : Jvm.MethodName)) ∈ lw_all := lw_g (lw_at lw_m4 24 rfl) rfl
theorem q1052 : (Jvm.Cond.methodLink "PeacockLawnsLaw" (141 : Nat) ({ cls := "PeacockLawnsLaw", name := "hen", desc := "(LPeacockLawns;I[J)I" } : Jvm.MethodName)) ∈ lw_all := lw_g (lw_at lw_m5 13 rfl) rfl
theorem q1053 : (Jvm.Cond.static ({ cls := "PeacockLawnsLaw", name := "hen", desc := "(LPeacockLawns;I[J)I" } : Jvm.MethodName)) ∈ lw_all := lw_g (lw_at lw_m5 14 rfl) rfl
theorem q1054 : (Jvm.Cond.codeWith ({ cls := "PeacockLawnsLaw", name := "hen", desc := "(LPeacockLawns;I[J)I" } : Jvm.MethodName) method_4_code (4 : Nat) (Option.some Jvm.ClassFile.FieldType.int) [((0 : Nat), (9 : Nat), (12 : Nat), (13 : Nat)), ((0 : Nat), (9 : Nat), (15 : Nat), (17 : Nat))]) ∈ lw_all := lw_g (lw_at lw_m5 15 rfl) rfl
theorem q1055 : (Jvm.Cond.methodLink "PeacockLawnsLaw" (19 : Nat) ({ cls := "PeacockLawns", name := "hen", desc := "(I)I" } : Jvm.MethodName)) ∈ lw_all := lw_g (lw_at lw_m5 16 rfl) rfl
theorem q1065 : (Jvm.Cond.methodLink "PeacockLawnsLaw" (145 : Nat) ({ cls := "PeacockLawnsLaw", name := "lay", desc := "(LPeacockLawns;I[J)I" } : Jvm.MethodName)) ∈ lw_all := lw_g (lw_at lw_m5 26 rfl) rfl
theorem q1066 : (Jvm.Cond.static ({ cls := "PeacockLawnsLaw", name := "lay", desc := "(LPeacockLawns;I[J)I" } : Jvm.MethodName)) ∈ lw_all := lw_g (lw_at lw_m5 27 rfl) rfl
theorem q1067 : (Jvm.Cond.codeWith ({ cls := "PeacockLawnsLaw", name := "lay", desc := "(LPeacockLawns;I[J)I" } : Jvm.MethodName) method_5_code (4 : Nat) (Option.some Jvm.ClassFile.FieldType.int) [((0 : Nat), (9 : Nat), (12 : Nat), (13 : Nat)), ((0 : Nat), (9 : Nat), (15 : Nat), (17 : Nat))]) ∈ lw_all := lw_g (lw_at lw_m5 28 rfl) rfl
theorem q1068 : (Jvm.Cond.methodLink "PeacockLawnsLaw" (23 : Nat) ({ cls := "PeacockLawns", name := "lay", desc := "(I)I" } : Jvm.MethodName)) ∈ lw_all := lw_g (lw_at lw_m5 29 rfl) rfl
theorem q1118 : (Jvm.Cond.methodLink "PeacockLawnsLaw" (148 : Nat) ({ cls := "PeacockLawnsLaw", name := "birdOf", desc := "(LPeacockLawns;II[J)I" } : Jvm.MethodName)) ∈ lw_all := lw_g (lw_at lw_m5 79 rfl) rfl
theorem q1119 : (Jvm.Cond.static ({ cls := "PeacockLawnsLaw", name := "birdOf", desc := "(LPeacockLawns;II[J)I" } : Jvm.MethodName)) ∈ lw_all := lw_g (lw_at lw_m5 80 rfl) rfl
theorem q1120 : (Jvm.Cond.codeWith ({ cls := "PeacockLawnsLaw", name := "birdOf", desc := "(LPeacockLawns;II[J)I" } : Jvm.MethodName) method_6_code (5 : Nat) (Option.some Jvm.ClassFile.FieldType.int) [((0 : Nat), (10 : Nat), (13 : Nat), (13 : Nat)), ((0 : Nat), (10 : Nat), (17 : Nat), (15 : Nat))]) ∈ lw_all := lw_g (lw_at lw_m5 81 rfl) rfl
theorem q1121 : (Jvm.Cond.methodLink "PeacockLawnsLaw" (26 : Nat) ({ cls := "PeacockLawns", name := "birdOf", desc := "(II)I" } : Jvm.MethodName)) ∈ lw_all := lw_g (lw_at lw_m5 82 rfl) rfl
theorem q1164 : (Jvm.Cond.methodLink "PeacockLawnsLaw" (152 : Nat) ({ cls := "PeacockLawnsLaw", name := "goesTo", desc := "(LPeacockLawns;I[J)I" } : Jvm.MethodName)) ∈ lw_all := lw_g (lw_at lw_m5 125 rfl) rfl
theorem q1165 : (Jvm.Cond.static ({ cls := "PeacockLawnsLaw", name := "goesTo", desc := "(LPeacockLawns;I[J)I" } : Jvm.MethodName)) ∈ lw_all := lw_g (lw_at lw_m5 126 rfl) rfl
theorem q1166 : (Jvm.Cond.codeWith ({ cls := "PeacockLawnsLaw", name := "goesTo", desc := "(LPeacockLawns;I[J)I" } : Jvm.MethodName) method_7_code (4 : Nat) (Option.some Jvm.ClassFile.FieldType.int) [((0 : Nat), (9 : Nat), (12 : Nat), (13 : Nat))]) ∈ lw_all := lw_g (lw_at lw_m5 127 rfl) rfl
theorem q1167 : (Jvm.Cond.methodLink "PeacockLawnsLaw" (30 : Nat) ({ cls := "PeacockLawns", name := "goesTo", desc := "(I)I" } : Jvm.MethodName)) ∈ lw_all := lw_g (lw_at lw_m5 128 rfl) rfl
theorem q1188 : (Jvm.Cond.methodLink "PeacockLawnsLaw" (155 : Nat) ({ cls := "PeacockLawnsLaw", name := "ordered", desc := "(LPeacockLawns;I[J)I" } : Jvm.MethodName)) ∈ lw_all := lw_g (lw_at lw_m5 149 rfl) rfl
theorem q1189 : (Jvm.Cond.static ({ cls := "PeacockLawnsLaw", name := "ordered", desc := "(LPeacockLawns;I[J)I" } : Jvm.MethodName)) ∈ lw_all := lw_g (lw_at lw_m5 150 rfl) rfl
theorem q1190 : (Jvm.Cond.codeWith ({ cls := "PeacockLawnsLaw", name := "ordered", desc := "(LPeacockLawns;I[J)I" } : Jvm.MethodName) method_8_code (4 : Nat) (Option.some Jvm.ClassFile.FieldType.int) [((0 : Nat), (9 : Nat), (12 : Nat), (36 : Nat))]) ∈ lw_all := lw_g (lw_at lw_m5 151 rfl) rfl
theorem q1191 : (Jvm.Cond.classLink "PeacockLawnsLaw" (36 : Nat) "java/util/NoSuchElementException") ∈ lw_all := lw_g (lw_at lw_m5 152 rfl) rfl
theorem q1192 : (Jvm.Cond.methodLink "PeacockLawnsLaw" (33 : Nat) ({ cls := "PeacockLawns", name := "ordered", desc := "(I)I" } : Jvm.MethodName)) ∈ lw_all := lw_g (lw_at lw_m5 153 rfl) rfl
theorem q1235 : (Jvm.Cond.methodLink "PeacockLawnsLaw" (162 : Nat) ({ cls := "PeacockLawnsLaw", name := "lawnOf", desc := "(LPeacockLawns;II[J)I" } : Jvm.MethodName)) ∈ lw_all := lw_g (lw_at lw_m5 196 rfl) rfl
theorem q1236 : (Jvm.Cond.static ({ cls := "PeacockLawnsLaw", name := "lawnOf", desc := "(LPeacockLawns;II[J)I" } : Jvm.MethodName)) ∈ lw_all := lw_g (lw_at lw_m5 197 rfl) rfl
theorem q1237 : (Jvm.Cond.codeWith ({ cls := "PeacockLawnsLaw", name := "lawnOf", desc := "(LPeacockLawns;II[J)I" } : Jvm.MethodName) method_9_code (5 : Nat) (Option.some Jvm.ClassFile.FieldType.int) [((0 : Nat), (10 : Nat), (13 : Nat), (13 : Nat)), ((0 : Nat), (10 : Nat), (17 : Nat), (15 : Nat))]) ∈ lw_all := lw_g (lw_at lw_m5 198 rfl) rfl
theorem q1238 : (Jvm.Cond.methodLink "PeacockLawnsLaw" (38 : Nat) ({ cls := "PeacockLawns", name := "lawnOf", desc := "(II)I" } : Jvm.MethodName)) ∈ lw_all := lw_g (lw_at lw_m5 199 rfl) rfl
theorem q1263 : (Jvm.Cond.methodLink "PeacockLawnsLaw" (165 : Nat) ({ cls := "PeacockLawnsLaw", name := "height", desc := "(LPeacockLawns;I[J)I" } : Jvm.MethodName)) ∈ lw_all := lw_g (lw_at lw_m5 224 rfl) rfl
theorem q1264 : (Jvm.Cond.static ({ cls := "PeacockLawnsLaw", name := "height", desc := "(LPeacockLawns;I[J)I" } : Jvm.MethodName)) ∈ lw_all := lw_g (lw_at lw_m5 225 rfl) rfl
theorem q1265 : (Jvm.Cond.codeWith ({ cls := "PeacockLawnsLaw", name := "height", desc := "(LPeacockLawns;I[J)I" } : Jvm.MethodName) method_10_code (4 : Nat) (Option.some Jvm.ClassFile.FieldType.int) [((0 : Nat), (9 : Nat), (12 : Nat), (13 : Nat))]) ∈ lw_all := lw_g (lw_at lw_m5 226 rfl) rfl
theorem q1266 : (Jvm.Cond.methodLink "PeacockLawnsLaw" (41 : Nat) ({ cls := "PeacockLawns", name := "height", desc := "(I)I" } : Jvm.MethodName)) ∈ lw_all := lw_g (lw_at lw_m5 227 rfl) rfl
theorem q1271 : (Jvm.Cond.methodLink "PeacockLawnsLaw" (168 : Nat) ({ cls := "PeacockLawnsLaw", name := "reached", desc := "(LPeacockLawns;II[J)I" } : Jvm.MethodName)) ∈ lw_all := lw_g (lw_at lw_m5 232 rfl) rfl
theorem q1272 : (Jvm.Cond.static ({ cls := "PeacockLawnsLaw", name := "reached", desc := "(LPeacockLawns;II[J)I" } : Jvm.MethodName)) ∈ lw_all := lw_g (lw_at lw_m5 233 rfl) rfl
theorem q1273 : (Jvm.Cond.codeWith ({ cls := "PeacockLawnsLaw", name := "reached", desc := "(LPeacockLawns;II[J)I" } : Jvm.MethodName) method_11_code (5 : Nat) (Option.some Jvm.ClassFile.FieldType.int) [((0 : Nat), (10 : Nat), (13 : Nat), (13 : Nat)), ((0 : Nat), (10 : Nat), (17 : Nat), (15 : Nat))]) ∈ lw_all := lw_g (lw_at lw_m5 234 rfl) rfl
theorem q1274 : (Jvm.Cond.methodLink "PeacockLawnsLaw" (44 : Nat) ({ cls := "PeacockLawns", name := "reached", desc := "(II)I" } : Jvm.MethodName)) ∈ lw_all := lw_g (lw_at lw_m5 235 rfl) rfl
theorem q1283 : (Jvm.Cond.methodLink "PeacockLawnsLaw" (171 : Nat) ({ cls := "PeacockLawnsLaw", name := "reachedAgain", desc := "(LPeacockLawns;II[J)I" } : Jvm.MethodName)) ∈ lw_all := lw_g (lw_at lw_m6 4 rfl) rfl
theorem q1284 : (Jvm.Cond.static ({ cls := "PeacockLawnsLaw", name := "reachedAgain", desc := "(LPeacockLawns;II[J)I" } : Jvm.MethodName)) ∈ lw_all := lw_g (lw_at lw_m6 5 rfl) rfl
theorem q1285 : (Jvm.Cond.codeWith ({ cls := "PeacockLawnsLaw", name := "reachedAgain", desc := "(LPeacockLawns;II[J)I" } : Jvm.MethodName) method_12_code (5 : Nat) (Option.some Jvm.ClassFile.FieldType.int) [((0 : Nat), (10 : Nat), (13 : Nat), (13 : Nat)), ((0 : Nat), (10 : Nat), (17 : Nat), (15 : Nat))]) ∈ lw_all := lw_g (lw_at lw_m6 6 rfl) rfl
theorem q1286 : (Jvm.Cond.methodLink "PeacockLawnsLaw" (47 : Nat) ({ cls := "PeacockLawns", name := "reachedAgain", desc := "(II)I" } : Jvm.MethodName)) ∈ lw_all := lw_g (lw_at lw_m6 7 rfl) rfl
theorem q1294 : (Jvm.Cond.methodLink "PeacockLawnsLaw" (174 : Nat) ({ cls := "PeacockLawnsLaw", name := "richest", desc := "(LPeacockLawns;[J)I" } : Jvm.MethodName)) ∈ lw_all := lw_g (lw_at lw_m6 15 rfl) rfl
theorem q1295 : (Jvm.Cond.static ({ cls := "PeacockLawnsLaw", name := "richest", desc := "(LPeacockLawns;[J)I" } : Jvm.MethodName)) ∈ lw_all := lw_g (lw_at lw_m6 16 rfl) rfl
theorem q1296 : (Jvm.Cond.codeWith ({ cls := "PeacockLawnsLaw", name := "richest", desc := "(LPeacockLawns;[J)I" } : Jvm.MethodName) method_13_code (3 : Nat) (Option.some Jvm.ClassFile.FieldType.int) [((0 : Nat), (8 : Nat), (11 : Nat), (36 : Nat))]) ∈ lw_all := lw_g (lw_at lw_m6 17 rfl) rfl
theorem q1297 : (Jvm.Cond.methodLink "PeacockLawnsLaw" (50 : Nat) ({ cls := "PeacockLawns", name := "richest", desc := "()I" } : Jvm.MethodName)) ∈ lw_all := lw_g (lw_at lw_m6 18 rfl) rfl
theorem q1301 : (Jvm.Cond.methodLink "PeacockLawnsLaw" (178 : Nat) ({ cls := "PeacockLawnsLaw", name := "keeper", desc := "(LPeacockLawns;[J)I" } : Jvm.MethodName)) ∈ lw_all := lw_g (lw_at lw_m6 22 rfl) rfl
theorem q1302 : (Jvm.Cond.static ({ cls := "PeacockLawnsLaw", name := "keeper", desc := "(LPeacockLawns;[J)I" } : Jvm.MethodName)) ∈ lw_all := lw_g (lw_at lw_m6 23 rfl) rfl
theorem q1303 : (Jvm.Cond.codeWith ({ cls := "PeacockLawnsLaw", name := "keeper", desc := "(LPeacockLawns;[J)I" } : Jvm.MethodName) method_14_code (3 : Nat) (Option.some Jvm.ClassFile.FieldType.int) [((0 : Nat), (8 : Nat), (11 : Nat), (17 : Nat))]) ∈ lw_all := lw_g (lw_at lw_m6 24 rfl) rfl
theorem q1304 : (Jvm.Cond.methodLink "PeacockLawnsLaw" (54 : Nat) ({ cls := "PeacockLawns", name := "keeper", desc := "()I" } : Jvm.MethodName)) ∈ lw_all := lw_g (lw_at lw_m6 25 rfl) rfl
theorem q1338 : (Jvm.Cond.methodLink "PeacockLawnsLaw" (181 : Nat) ({ cls := "PeacockLawnsLaw", name := "keeperOf", desc := "(LPeacockLawns;II[J)I" } : Jvm.MethodName)) ∈ lw_all := lw_g (lw_at lw_m6 59 rfl) rfl
theorem q1339 : (Jvm.Cond.static ({ cls := "PeacockLawnsLaw", name := "keeperOf", desc := "(LPeacockLawns;II[J)I" } : Jvm.MethodName)) ∈ lw_all := lw_g (lw_at lw_m6 60 rfl) rfl
theorem q1340 : (Jvm.Cond.codeWith ({ cls := "PeacockLawnsLaw", name := "keeperOf", desc := "(LPeacockLawns;II[J)I" } : Jvm.MethodName) method_15_code (5 : Nat) (Option.some Jvm.ClassFile.FieldType.int) [((0 : Nat), (10 : Nat), (13 : Nat), (13 : Nat)), ((0 : Nat), (10 : Nat), (17 : Nat), (15 : Nat))]) ∈ lw_all := lw_g (lw_at lw_m6 61 rfl) rfl
theorem q1341 : (Jvm.Cond.methodLink "PeacockLawnsLaw" (57 : Nat) ({ cls := "PeacockLawns", name := "keeperOf", desc := "(II)I" } : Jvm.MethodName)) ∈ lw_all := lw_g (lw_at lw_m6 62 rfl) rfl
theorem q1345 : (Jvm.Cond.methodLink "PeacockLawnsLaw" (184 : Nat) ({ cls := "PeacockLawnsLaw", name := "walk", desc := "(LPeacockLawns;II[J)I" } : Jvm.MethodName)) ∈ lw_all := lw_g (lw_at lw_m6 66 rfl) rfl
theorem q1346 : (Jvm.Cond.static ({ cls := "PeacockLawnsLaw", name := "walk", desc := "(LPeacockLawns;II[J)I" } : Jvm.MethodName)) ∈ lw_all := lw_g (lw_at lw_m6 67 rfl) rfl
theorem q1347 : (Jvm.Cond.codeWith ({ cls := "PeacockLawnsLaw", name := "walk", desc := "(LPeacockLawns;II[J)I" } : Jvm.MethodName) method_16_code (5 : Nat) (Option.some Jvm.ClassFile.FieldType.int) [((0 : Nat), (10 : Nat), (13 : Nat), (13 : Nat)), ((0 : Nat), (10 : Nat), (17 : Nat), (17 : Nat))]) ∈ lw_all := lw_g (lw_at lw_m6 68 rfl) rfl
theorem q1348 : (Jvm.Cond.methodLink "PeacockLawnsLaw" (60 : Nat) ({ cls := "PeacockLawns", name := "walk", desc := "(II)I" } : Jvm.MethodName)) ∈ lw_all := lw_g (lw_at lw_m6 69 rfl) rfl
theorem q1367 : (Jvm.Cond.methodLink "PeacockLawnsLaw" (187 : Nat) ({ cls := "PeacockLawnsLaw", name := "shear", desc := "(LPeacockLawns;III[J)I" } : Jvm.MethodName)) ∈ lw_all := lw_g (lw_at lw_m6 88 rfl) rfl
theorem q1368 : (Jvm.Cond.static ({ cls := "PeacockLawnsLaw", name := "shear", desc := "(LPeacockLawns;III[J)I" } : Jvm.MethodName)) ∈ lw_all := lw_g (lw_at lw_m6 89 rfl) rfl
theorem q1369 : (Jvm.Cond.codeWith ({ cls := "PeacockLawnsLaw", name := "shear", desc := "(LPeacockLawns;III[J)I" } : Jvm.MethodName) method_17_code (6 : Nat) (Option.some Jvm.ClassFile.FieldType.int) [((0 : Nat), (12 : Nat), (15 : Nat), (13 : Nat)), ((0 : Nat), (12 : Nat), (19 : Nat), (15 : Nat)), ((0 : Nat), (12 : Nat), (23 : Nat), (17 : Nat))]) ∈ lw_all := lw_g (lw_at lw_m6 90 rfl) rfl
theorem q1370 : (Jvm.Cond.methodLink "PeacockLawnsLaw" (63 : Nat) ({ cls := "PeacockLawns", name := "shear", desc := "(III)I" } : Jvm.MethodName)) ∈ lw_all := lw_g (lw_at lw_m6 91 rfl) rfl
theorem q1387 : (Jvm.Cond.methodLink "PeacockLawnsLaw" (190 : Nat) ({ cls := "PeacockLawnsLaw", name := "find", desc := "(LPeacockLawns;I[J)I" } : Jvm.MethodName)) ∈ lw_all := lw_g (lw_at lw_m6 108 rfl) rfl
theorem q1388 : (Jvm.Cond.static ({ cls := "PeacockLawnsLaw", name := "find", desc := "(LPeacockLawns;I[J)I" } : Jvm.MethodName)) ∈ lw_all := lw_g (lw_at lw_m6 109 rfl) rfl
theorem q1389 : (Jvm.Cond.codeWith ({ cls := "PeacockLawnsLaw", name := "find", desc := "(LPeacockLawns;I[J)I" } : Jvm.MethodName) method_18_code (4 : Nat) (Option.some Jvm.ClassFile.FieldType.int) [((0 : Nat), (9 : Nat), (12 : Nat), (13 : Nat)), ((0 : Nat), (9 : Nat), (15 : Nat), (17 : Nat))]) ∈ lw_all := lw_g (lw_at lw_m6 110 rfl) rfl
theorem q1390 : (Jvm.Cond.methodLink "PeacockLawnsLaw" (66 : Nat) ({ cls := "PeacockLawns", name := "find", desc := "(I)I" } : Jvm.MethodName)) ∈ lw_all := lw_g (lw_at lw_m6 111 rfl) rfl
theorem q1404 : (Jvm.Cond.methodLink "PeacockLawnsLaw" (193 : Nat) ({ cls := "PeacockLawnsLaw", name := "sell", desc := "(LPeacockLawns;I[J)I" } : Jvm.MethodName)) ∈ lw_all := lw_g (lw_at lw_m6 125 rfl) rfl
theorem q1405 : (Jvm.Cond.static ({ cls := "PeacockLawnsLaw", name := "sell", desc := "(LPeacockLawns;I[J)I" } : Jvm.MethodName)) ∈ lw_all := lw_g (lw_at lw_m6 126 rfl) rfl
theorem q1406 : (Jvm.Cond.codeWith ({ cls := "PeacockLawnsLaw", name := "sell", desc := "(LPeacockLawns;I[J)I" } : Jvm.MethodName) method_19_code (4 : Nat) (Option.some Jvm.ClassFile.FieldType.int) [((0 : Nat), (9 : Nat), (12 : Nat), (15 : Nat)), ((0 : Nat), (9 : Nat), (15 : Nat), (17 : Nat))]) ∈ lw_all := lw_g (lw_at lw_m6 127 rfl) rfl
theorem q1407 : (Jvm.Cond.methodLink "PeacockLawnsLaw" (69 : Nat) ({ cls := "PeacockLawns", name := "sell", desc := "(I)I" } : Jvm.MethodName)) ∈ lw_all := lw_g (lw_at lw_m6 128 rfl) rfl
theorem q1417 : (Jvm.Cond.methodLink "PeacockLawnsLaw" (196 : Nat) ({ cls := "PeacockLawnsLaw", name := "bench", desc := "(LPeacockLawns;I[J)I" } : Jvm.MethodName)) ∈ lw_all := lw_g (lw_at lw_m6 138 rfl) rfl
theorem q1418 : (Jvm.Cond.static ({ cls := "PeacockLawnsLaw", name := "bench", desc := "(LPeacockLawns;I[J)I" } : Jvm.MethodName)) ∈ lw_all := lw_g (lw_at lw_m6 139 rfl) rfl
theorem q1419 : (Jvm.Cond.codeWith ({ cls := "PeacockLawnsLaw", name := "bench", desc := "(LPeacockLawns;I[J)I" } : Jvm.MethodName) method_20_code (4 : Nat) (Option.some Jvm.ClassFile.FieldType.int) [((0 : Nat), (9 : Nat), (12 : Nat), (13 : Nat)), ((0 : Nat), (9 : Nat), (15 : Nat), (17 : Nat))]) ∈ lw_all := lw_g (lw_at lw_m6 140 rfl) rfl
theorem q1420 : (Jvm.Cond.methodLink "PeacockLawnsLaw" (72 : Nat) ({ cls := "PeacockLawns", name := "bench", desc := "(I)I" } : Jvm.MethodName)) ∈ lw_all := lw_g (lw_at lw_m6 141 rfl) rfl
theorem q1449 : (Jvm.Cond.methodLink "PeacockLawnsLaw" (199 : Nat) ({ cls := "PeacockLawnsLaw", name := "seat", desc := "(LPeacockLawns;II[J)I" } : Jvm.MethodName)) ∈ lw_all := lw_g (lw_at lw_m6 170 rfl) rfl
theorem q1450 : (Jvm.Cond.static ({ cls := "PeacockLawnsLaw", name := "seat", desc := "(LPeacockLawns;II[J)I" } : Jvm.MethodName)) ∈ lw_all := lw_g (lw_at lw_m6 171 rfl) rfl
theorem q1451 : (Jvm.Cond.codeWith ({ cls := "PeacockLawnsLaw", name := "seat", desc := "(LPeacockLawns;II[J)I" } : Jvm.MethodName) method_21_code (5 : Nat) (Option.some Jvm.ClassFile.FieldType.int) [((0 : Nat), (10 : Nat), (13 : Nat), (13 : Nat)), ((0 : Nat), (10 : Nat), (17 : Nat), (15 : Nat)), ((0 : Nat), (10 : Nat), (21 : Nat), (17 : Nat))]) ∈ lw_all := lw_g (lw_at lw_m6 172 rfl) rfl
theorem q1452 : (Jvm.Cond.methodLink "PeacockLawnsLaw" (75 : Nat) ({ cls := "PeacockLawns", name := "seat", desc := "(II)I" } : Jvm.MethodName)) ∈ lw_all := lw_g (lw_at lw_m6 173 rfl) rfl
theorem q1468 : (Jvm.Cond.methodLink "PeacockLawnsLaw" (202 : Nat) ({ cls := "PeacockLawnsLaw", name := "benchOf", desc := "(LPeacockLawns;II[J)I" } : Jvm.MethodName)) ∈ lw_all := lw_g (lw_at lw_m6 189 rfl) rfl
theorem q1469 : (Jvm.Cond.static ({ cls := "PeacockLawnsLaw", name := "benchOf", desc := "(LPeacockLawns;II[J)I" } : Jvm.MethodName)) ∈ lw_all := lw_g (lw_at lw_m6 190 rfl) rfl
theorem q1470 : (Jvm.Cond.codeWith ({ cls := "PeacockLawnsLaw", name := "benchOf", desc := "(LPeacockLawns;II[J)I" } : Jvm.MethodName) method_22_code (5 : Nat) (Option.some Jvm.ClassFile.FieldType.int) [((0 : Nat), (10 : Nat), (13 : Nat), (13 : Nat)), ((0 : Nat), (10 : Nat), (17 : Nat), (15 : Nat))]) ∈ lw_all := lw_g (lw_at lw_m6 191 rfl) rfl
theorem q1471 : (Jvm.Cond.methodLink "PeacockLawnsLaw" (78 : Nat) ({ cls := "PeacockLawns", name := "benchOf", desc := "(II)I" } : Jvm.MethodName)) ∈ lw_all := lw_g (lw_at lw_m6 192 rfl) rfl
theorem q1475 : (Jvm.Cond.methodLink "PeacockLawnsLaw" (205 : Nat) ({ cls := "PeacockLawnsLaw", name := "pass", desc := "(LPeacockLawns;I[J)I" } : Jvm.MethodName)) ∈ lw_all := lw_g (lw_at lw_m6 196 rfl) rfl
theorem q1476 : (Jvm.Cond.static ({ cls := "PeacockLawnsLaw", name := "pass", desc := "(LPeacockLawns;I[J)I" } : Jvm.MethodName)) ∈ lw_all := lw_g (lw_at lw_m6 197 rfl) rfl
theorem q1477 : (Jvm.Cond.codeWith ({ cls := "PeacockLawnsLaw", name := "pass", desc := "(LPeacockLawns;I[J)I" } : Jvm.MethodName) method_23_code (4 : Nat) (Option.some Jvm.ClassFile.FieldType.int) [((0 : Nat), (9 : Nat), (12 : Nat), (15 : Nat))]) ∈ lw_all := lw_g (lw_at lw_m6 198 rfl) rfl
theorem q1478 : (Jvm.Cond.methodLink "PeacockLawnsLaw" (81 : Nat) ({ cls := "PeacockLawns", name := "pass", desc := "(I)I" } : Jvm.MethodName)) ∈ lw_all := lw_g (lw_at lw_m6 199 rfl) rfl
theorem q1546 : (Jvm.Cond.methodLink "PeacockLawnsLaw" (208 : Nat) ({ cls := "PeacockLawnsLaw", name := "hatchesIn", desc := "(LPeacockLawns;I[J)I" } : Jvm.MethodName)) ∈ lw_all := lw_g (lw_at lw_m7 27 rfl) rfl
theorem q1547 : (Jvm.Cond.static ({ cls := "PeacockLawnsLaw", name := "hatchesIn", desc := "(LPeacockLawns;I[J)I" } : Jvm.MethodName)) ∈ lw_all := lw_g (lw_at lw_m7 28 rfl) rfl
theorem q1548 : (Jvm.Cond.codeWith ({ cls := "PeacockLawnsLaw", name := "hatchesIn", desc := "(LPeacockLawns;I[J)I" } : Jvm.MethodName) method_24_code (4 : Nat) (Option.some Jvm.ClassFile.FieldType.int) [((0 : Nat), (9 : Nat), (12 : Nat), (13 : Nat)), ((0 : Nat), (9 : Nat), (15 : Nat), (36 : Nat))]) ∈ lw_all := lw_g (lw_at lw_m7 29 rfl) rfl
theorem q1549 : (Jvm.Cond.methodLink "PeacockLawnsLaw" (84 : Nat) ({ cls := "PeacockLawns", name := "hatchesIn", desc := "(I)I" } : Jvm.MethodName)) ∈ lw_all := lw_g (lw_at lw_m7 30 rfl) rfl
theorem q1555 : (Jvm.Cond.methodLink "PeacockLawnsLaw" (211 : Nat) ({ cls := "PeacockLawnsLaw", name := "wouldShed", desc := "(LPeacockLawns;I[J)I" } : Jvm.MethodName)) ∈ lw_all := lw_g (lw_at lw_m7 36 rfl) rfl
theorem q1556 : (Jvm.Cond.static ({ cls := "PeacockLawnsLaw", name := "wouldShed", desc := "(LPeacockLawns;I[J)I" } : Jvm.MethodName)) ∈ lw_all := lw_g (lw_at lw_m7 37 rfl) rfl
theorem q1557 : (Jvm.Cond.codeWith ({ cls := "PeacockLawnsLaw", name := "wouldShed", desc := "(LPeacockLawns;I[J)I" } : Jvm.MethodName) method_25_code (4 : Nat) (Option.some Jvm.ClassFile.FieldType.int) [((0 : Nat), (9 : Nat), (12 : Nat), (15 : Nat))]) ∈ lw_all := lw_g (lw_at lw_m7 38 rfl) rfl
theorem q1558 : (Jvm.Cond.methodLink "PeacockLawnsLaw" (87 : Nat) ({ cls := "PeacockLawns", name := "wouldShed", desc := "(I)I" } : Jvm.MethodName)) ∈ lw_all := lw_g (lw_at lw_m7 39 rfl) rfl
theorem q1562 : (Jvm.Cond.methodLink "PeacockLawnsLaw" (218 : Nat) ({ cls := "PeacockLawnsLaw", name := "line", desc := "(LPeacockLawns;I[J)I" } : Jvm.MethodName)) ∈ lw_all := lw_g (lw_at lw_m7 43 rfl) rfl
theorem q1563 : (Jvm.Cond.static ({ cls := "PeacockLawnsLaw", name := "line", desc := "(LPeacockLawns;I[J)I" } : Jvm.MethodName)) ∈ lw_all := lw_g (lw_at lw_m7 44 rfl) rfl
theorem q1564 : (Jvm.Cond.codeWith ({ cls := "PeacockLawnsLaw", name := "line", desc := "(LPeacockLawns;I[J)I" } : Jvm.MethodName) method_26_code (4 : Nat) (Option.some Jvm.ClassFile.FieldType.int) [((0 : Nat), (9 : Nat), (12 : Nat), (13 : Nat))]) ∈ lw_all := lw_g (lw_at lw_m7 45 rfl) rfl
theorem q1565 : (Jvm.Cond.methodLink "PeacockLawnsLaw" (90 : Nat) ({ cls := "PeacockLawns", name := "line", desc := "(I)I" } : Jvm.MethodName)) ∈ lw_all := lw_g (lw_at lw_m7 46 rfl) rfl
theorem q1609 : (Jvm.Cond.methodLink "PeacockLawnsLaw" (221 : Nat) ({ cls := "PeacockLawnsLaw", name := "character", desc := "(LPeacockLawns;I[J)I" } : Jvm.MethodName)) ∈ lw_all := lw_g (lw_at lw_m7 90 rfl) rfl
theorem q1610 : (Jvm.Cond.static ({ cls := "PeacockLawnsLaw", name := "character", desc := "(LPeacockLawns;I[J)I" } : Jvm.MethodName)) ∈ lw_all := lw_g (lw_at lw_m7 91 rfl) rfl
theorem q1611 : (Jvm.Cond.codeWith ({ cls := "PeacockLawnsLaw", name := "character", desc := "(LPeacockLawns;I[J)I" } : Jvm.MethodName) method_27_code (4 : Nat) (Option.some Jvm.ClassFile.FieldType.int) [((0 : Nat), (9 : Nat), (12 : Nat), (13 : Nat))]) ∈ lw_all := lw_g (lw_at lw_m7 92 rfl) rfl
theorem q1612 : (Jvm.Cond.methodLink "PeacockLawnsLaw" (93 : Nat) ({ cls := "PeacockLawns", name := "character", desc := "(I)C" } : Jvm.MethodName)) ∈ lw_all := lw_g (lw_at lw_m7 93 rfl) rfl
theorem q1647 : (Jvm.Cond.methodLink "PeacockLawnsLaw" (224 : Nat) ({ cls := "PeacockLawnsLaw", name := "number", desc := "(LPeacockLawns;I[J)I" } : Jvm.MethodName)) ∈ lw_all := lw_g (lw_at lw_m7 128 rfl) rfl
theorem q1648 : (Jvm.Cond.static ({ cls := "PeacockLawnsLaw", name := "number", desc := "(LPeacockLawns;I[J)I" } : Jvm.MethodName)) ∈ lw_all := lw_g (lw_at lw_m7 129 rfl) rfl
theorem q1649 : (Jvm.Cond.codeWith ({ cls := "PeacockLawnsLaw", name := "number", desc := "(LPeacockLawns;I[J)I" } : Jvm.MethodName) method_28_code (4 : Nat) (Option.some Jvm.ClassFile.FieldType.int) [((0 : Nat), (9 : Nat), (12 : Nat), (15 : Nat))]) ∈ lw_all := lw_g (lw_at lw_m7 130 rfl) rfl
theorem q1650 : (Jvm.Cond.methodLink "PeacockLawnsLaw" (97 : Nat) ({ cls := "PeacockLawns", name := "number", desc := "(I)I" } : Jvm.MethodName)) ∈ lw_all := lw_g (lw_at lw_m7 131 rfl) rfl
theorem q1666 : (Jvm.Cond.methodLink "PeacockLawnsLaw" (236 : Nat) ({ cls := "PeacockLawnsLaw", name := "foundShare", desc := "(LPeacockLawns;[D)I" } : Jvm.MethodName)) ∈ lw_all := lw_g (lw_at lw_m7 147 rfl) rfl
theorem q1667 : (Jvm.Cond.static ({ cls := "PeacockLawnsLaw", name := "foundShare", desc := "(LPeacockLawns;[D)I" } : Jvm.MethodName)) ∈ lw_all := lw_g (lw_at lw_m7 148 rfl) rfl
theorem q1668 : (Jvm.Cond.codeWith ({ cls := "PeacockLawnsLaw", name := "foundShare", desc := "(LPeacockLawns;[D)I" } : Jvm.MethodName) method_29_code (3 : Nat) (Option.some Jvm.ClassFile.FieldType.int) [((0 : Nat), (8 : Nat), (11 : Nat), (104 : Nat))]) ∈ lw_all := lw_g (lw_at lw_m7 149 rfl) rfl
theorem q1669 : (Jvm.Cond.classLink "PeacockLawnsLaw" (104 : Nat) "java/lang/ArithmeticException") ∈ lw_all := lw_g (lw_at lw_m7 150 rfl) rfl
theorem q1683 : (Jvm.Cond.methodLink "PeacockLawnsLaw" (100 : Nat) ({ cls := "PeacockLawns", name := "foundShare", desc := "()F" } : Jvm.MethodName)) ∈ lw_all := lw_g (lw_at lw_m7 164 rfl) rfl
theorem q1692 : (Jvm.Cond.methodLink "PeacockLawnsLaw" (240 : Nat) ({ cls := "PeacockLawnsLaw", name := "feed", desc := "(LPeacockLawns;C[J)I" } : Jvm.MethodName)) ∈ lw_all := lw_g (lw_at lw_m7 173 rfl) rfl
theorem q1693 : (Jvm.Cond.static ({ cls := "PeacockLawnsLaw", name := "feed", desc := "(LPeacockLawns;C[J)I" } : Jvm.MethodName)) ∈ lw_all := lw_g (lw_at lw_m7 174 rfl) rfl
theorem q1694 : (Jvm.Cond.codeWith ({ cls := "PeacockLawnsLaw", name := "feed", desc := "(LPeacockLawns;C[J)I" } : Jvm.MethodName) method_30_code (4 : Nat) (Option.some Jvm.ClassFile.FieldType.int) [((0 : Nat), (9 : Nat), (12 : Nat), (110 : Nat))]) ∈ lw_all := lw_g (lw_at lw_m7 175 rfl) rfl
theorem q1695 : (Jvm.Cond.classLink "PeacockLawnsLaw" (110 : Nat) "java/lang/IllegalStateException") ∈ lw_all := lw_g (lw_at lw_m7 176 rfl) rfl
theorem q1696 : (Jvm.Cond.methodLink "PeacockLawnsLaw" (106 : Nat) ({ cls := "PeacockLawns", name := "feed", desc := "(C)I" } : Jvm.MethodName)) ∈ lw_all := lw_g (lw_at lw_m7 177 rfl) rfl
theorem q1708 : (Jvm.Cond.methodLink "PeacockLawnsLaw" (244 : Nat) ({ cls := "PeacockLawnsLaw", name := "read", desc := "(LPeacockLawns;[J)I" } : Jvm.MethodName)) ∈ lw_all := lw_g (lw_at lw_m7 189 rfl) rfl
theorem q1709 : (Jvm.Cond.static ({ cls := "PeacockLawnsLaw", name := "read", desc := "(LPeacockLawns;[J)I" } : Jvm.MethodName)) ∈ lw_all := lw_g (lw_at lw_m7 190 rfl) rfl
theorem q1710 : (Jvm.Cond.codeWith ({ cls := "PeacockLawnsLaw", name := "read", desc := "(LPeacockLawns;[J)I" } : Jvm.MethodName) method_31_code (3 : Nat) (Option.some Jvm.ClassFile.FieldType.int) [((0 : Nat), (8 : Nat), (11 : Nat), (15 : Nat)), ((0 : Nat), (8 : Nat), (14 : Nat), (17 : Nat))]) ∈ lw_all := lw_g (lw_at lw_m7 191 rfl) rfl
theorem q1711 : (Jvm.Cond.methodLink "PeacockLawnsLaw" (112 : Nat) ({ cls := "PeacockLawns", name := "read", desc := "()I" } : Jvm.MethodName)) ∈ lw_all := lw_g (lw_at lw_m7 192 rfl) rfl
theorem q2005 : (Jvm.Cond.methodLink "PeacockLawnsLaw" (247 : Nat) ({ cls := "PeacockLawnsLaw", name := "faultPosition", desc := "(LPeacockLawns;[J)I" } : Jvm.MethodName)) ∈ lw_all := lw_g (lw_at lw_m9 6 rfl) rfl
theorem q2006 : (Jvm.Cond.static ({ cls := "PeacockLawnsLaw", name := "faultPosition", desc := "(LPeacockLawns;[J)I" } : Jvm.MethodName)) ∈ lw_all := lw_g (lw_at lw_m9 7 rfl) rfl
theorem q2007 : (Jvm.Cond.codeWith ({ cls := "PeacockLawnsLaw", name := "faultPosition", desc := "(LPeacockLawns;[J)I" } : Jvm.MethodName) method_32_code (3 : Nat) (Option.some Jvm.ClassFile.FieldType.int) [((0 : Nat), (8 : Nat), (11 : Nat), (36 : Nat))]) ∈ lw_all := lw_g (lw_at lw_m9 8 rfl) rfl
theorem q2008 : (Jvm.Cond.methodLink "PeacockLawnsLaw" (115 : Nat) ({ cls := "PeacockLawns", name := "faultPosition", desc := "()I" } : Jvm.MethodName)) ∈ lw_all := lw_g (lw_at lw_m9 9 rfl) rfl
theorem q2012 : (Jvm.Cond.methodLink "PeacockLawnsLaw" (250 : Nat) ({ cls := "PeacockLawnsLaw", name := "refusal", desc := "(LPeacockLawns;IZ[J)I" } : Jvm.MethodName)) ∈ lw_all := lw_g (lw_at lw_m9 13 rfl) rfl
theorem q2013 : (Jvm.Cond.static ({ cls := "PeacockLawnsLaw", name := "refusal", desc := "(LPeacockLawns;IZ[J)I" } : Jvm.MethodName)) ∈ lw_all := lw_g (lw_at lw_m9 14 rfl) rfl
theorem q2014 : (Jvm.Cond.codeWith ({ cls := "PeacockLawnsLaw", name := "refusal", desc := "(LPeacockLawns;IZ[J)I" } : Jvm.MethodName) method_33_code (5 : Nat) (Option.some Jvm.ClassFile.FieldType.int) [((0 : Nat), (10 : Nat), (13 : Nat), (15 : Nat)), ((0 : Nat), (10 : Nat), (17 : Nat), (36 : Nat))]) ∈ lw_all := lw_g (lw_at lw_m9 15 rfl) rfl
theorem q2015 : (Jvm.Cond.methodLink "PeacockLawnsLaw" (118 : Nat) ({ cls := "PeacockLawns", name := "refusal", desc := "(IZ)I" } : Jvm.MethodName)) ∈ lw_all := lw_g (lw_at lw_m9 16 rfl) rfl
theorem q2025 : (Jvm.Cond.methodLink "PeacockLawnsLaw" (254 : Nat) ({ cls := "PeacockLawnsLaw", name := "undo", desc := "(LPeacockLawns;[J)I" } : Jvm.MethodName)) ∈ lw_all := lw_g (lw_at lw_m9 26 rfl) rfl
theorem q2026 : (Jvm.Cond.static ({ cls := "PeacockLawnsLaw", name := "undo", desc := "(LPeacockLawns;[J)I" } : Jvm.MethodName)) ∈ lw_all := lw_g (lw_at lw_m9 27 rfl) rfl
theorem q2027 : (Jvm.Cond.codeWith ({ cls := "PeacockLawnsLaw", name := "undo", desc := "(LPeacockLawns;[J)I" } : Jvm.MethodName) method_34_code (3 : Nat) (Option.some Jvm.ClassFile.FieldType.int) [((0 : Nat), (8 : Nat), (11 : Nat), (110 : Nat))]) ∈ lw_all := lw_g (lw_at lw_m9 28 rfl) rfl
theorem q2028 : (Jvm.Cond.methodLink "PeacockLawnsLaw" (122 : Nat) ({ cls := "PeacockLawns", name := "undo", desc := "()I" } : Jvm.MethodName)) ∈ lw_all := lw_g (lw_at lw_m9 29 rfl) rfl
theorem q2051 : (Jvm.Cond.methodLink "PeacockLawnsLaw" (261 : Nat) ({ cls := "PeacockLawnsLaw", name := "restoreSnapshot", desc := "(LPeacockLawns;[J)I" } : Jvm.MethodName)) ∈ lw_all := lw_g (lw_at lw_m9 52 rfl) rfl
theorem q2052 : (Jvm.Cond.static ({ cls := "PeacockLawnsLaw", name := "restoreSnapshot", desc := "(LPeacockLawns;[J)I" } : Jvm.MethodName)) ∈ lw_all := lw_g (lw_at lw_m9 53 rfl) rfl
theorem q2053 : (Jvm.Cond.codeWith ({ cls := "PeacockLawnsLaw", name := "restoreSnapshot", desc := "(LPeacockLawns;[J)I" } : Jvm.MethodName) method_35_code (3 : Nat) (Option.some Jvm.ClassFile.FieldType.int) [((0 : Nat), (8 : Nat), (11 : Nat), (110 : Nat))]) ∈ lw_all := lw_g (lw_at lw_m9 54 rfl) rfl
theorem q2054 : (Jvm.Cond.methodLink "PeacockLawnsLaw" (125 : Nat) ({ cls := "PeacockLawns", name := "restoreSnapshot", desc := "()I" } : Jvm.MethodName)) ∈ lw_all := lw_g (lw_at lw_m9 55 rfl) rfl
theorem q2065 : (Jvm.Cond.classLink "PeacockLawnsLaw" (129 : Nat) "PeacockLawnsModel") ∈ lw_all := lw_g (lw_at lw_m9 66 rfl) rfl
theorem q2067 : (Jvm.Cond.methodLink "PeacockLawnsLaw" (131 : Nat) ({ cls := "PeacockLawnsModel", name := "<init>", desc := "()V" } : Jvm.MethodName)) ∈ lw_all := lw_g (lw_at lw_m9 68 rfl) rfl
theorem q2156 : (Jvm.Cond.methodLink "PeacockLawnsLaw" (138 : Nat) ({ cls := "PeacockLawnsModel", name := "thrown", desc := "()I" } : Jvm.MethodName)) ∈ lw_all := lw_g (lw_at lw_m9 157 rfl) rfl
theorem q2160 : (Jvm.Cond.methodLink "PeacockLawnsLaw" (167 : Nat) ({ cls := "PeacockLawnsModel", name := "height", desc := "(I)I" } : Jvm.MethodName)) ∈ lw_all := lw_g (lw_at lw_m9 161 rfl) rfl
theorem q2174 : (Jvm.Cond.methodLink "PeacockLawnsLaw" (137 : Nat) ({ cls := "PeacockLawnsModel", name := "cock", desc := "(III)I" } : Jvm.MethodName)) ∈ lw_all := lw_g (lw_at lw_m9 175 rfl) rfl
theorem q2208 : (Jvm.Cond.methodLink "PeacockLawnsLaw" (144 : Nat) ({ cls := "PeacockLawnsModel", name := "hen", desc := "(I)I" } : Jvm.MethodName)) ∈ lw_all := lw_g (lw_at lw_m9 209 rfl) rfl
theorem q2212 : (Jvm.Cond.methodLink "PeacockLawnsLaw" (147 : Nat) ({ cls := "PeacockLawnsModel", name := "lay", desc := "(I)I" } : Jvm.MethodName)) ∈ lw_all := lw_g (lw_at lw_m9 213 rfl) rfl
theorem q2232 : (Jvm.Cond.methodLink "PeacockLawnsLaw" (151 : Nat) ({ cls := "PeacockLawnsModel", name := "birdOf", desc := "(II)I" } : Jvm.MethodName)) ∈ lw_all := lw_g (lw_at lw_m9 233 rfl) rfl
theorem q2240 : (Jvm.Cond.methodLink "PeacockLawnsLaw" (154 : Nat) ({ cls := "PeacockLawnsModel", name := "goesTo", desc := "(I)I" } : Jvm.MethodName)) ∈ lw_all := lw_g (lw_at lw_m10 1 rfl) rfl
theorem q2272 : (Jvm.Cond.methodLink "PeacockLawnsLaw" (157 : Nat) ({ cls := "PeacockLawnsModel", name := "ordered", desc := "(I)I" } : Jvm.MethodName)) ∈ lw_all := lw_g (lw_at lw_m10 33 rfl) rfl
theorem q2280 : (Jvm.Cond.methodLink "PeacockLawnsLaw" (161 : Nat) ({ cls := "PeacockLawnsModel", name := "fox", desc := "()I" } : Jvm.MethodName)) ∈ lw_all := lw_g (lw_at lw_m10 41 rfl) rfl
theorem q2284 : (Jvm.Cond.methodLink "PeacockLawnsLaw" (164 : Nat) ({ cls := "PeacockLawnsModel", name := "lawnOf", desc := "(II)I" } : Jvm.MethodName)) ∈ lw_all := lw_g (lw_at lw_m10 45 rfl) rfl
theorem q2292 : (Jvm.Cond.methodLink "PeacockLawnsLaw" (170 : Nat) ({ cls := "PeacockLawnsModel", name := "reached", desc := "(II)I" } : Jvm.MethodName)) ∈ lw_all := lw_g (lw_at lw_m10 53 rfl) rfl
theorem q2300 : (Jvm.Cond.methodLink "PeacockLawnsLaw" (173 : Nat) ({ cls := "PeacockLawnsModel", name := "reachedAgain", desc := "(II)I" } : Jvm.MethodName)) ∈ lw_all := lw_g (lw_at lw_m10 61 rfl) rfl
theorem q2304 : (Jvm.Cond.methodLink "PeacockLawnsLaw" (177 : Nat) ({ cls := "PeacockLawnsModel", name := "richest", desc := "()I" } : Jvm.MethodName)) ∈ lw_all := lw_g (lw_at lw_m10 65 rfl) rfl
theorem q2308 : (Jvm.Cond.methodLink "PeacockLawnsLaw" (180 : Nat) ({ cls := "PeacockLawnsModel", name := "keeper", desc := "()I" } : Jvm.MethodName)) ∈ lw_all := lw_g (lw_at lw_m10 69 rfl) rfl
theorem q2312 : (Jvm.Cond.methodLink "PeacockLawnsLaw" (183 : Nat) ({ cls := "PeacockLawnsModel", name := "keeperOf", desc := "(II)I" } : Jvm.MethodName)) ∈ lw_all := lw_g (lw_at lw_m10 73 rfl) rfl
theorem q2324 : (Jvm.Cond.methodLink "PeacockLawnsLaw" (186 : Nat) ({ cls := "PeacockLawnsModel", name := "walk", desc := "(II)I" } : Jvm.MethodName)) ∈ lw_all := lw_g (lw_at lw_m10 85 rfl) rfl
theorem q2339 : (Jvm.Cond.methodLink "PeacockLawnsLaw" (189 : Nat) ({ cls := "PeacockLawnsModel", name := "shear", desc := "(III)I" } : Jvm.MethodName)) ∈ lw_all := lw_g (lw_at lw_m10 100 rfl) rfl
theorem q2347 : (Jvm.Cond.methodLink "PeacockLawnsLaw" (192 : Nat) ({ cls := "PeacockLawnsModel", name := "find", desc := "(I)I" } : Jvm.MethodName)) ∈ lw_all := lw_g (lw_at lw_m10 108 rfl) rfl
theorem q2355 : (Jvm.Cond.methodLink "PeacockLawnsLaw" (195 : Nat) ({ cls := "PeacockLawnsModel", name := "sell", desc := "(I)I" } : Jvm.MethodName)) ∈ lw_all := lw_g (lw_at lw_m10 116 rfl) rfl
theorem q2359 : (Jvm.Cond.methodLink "PeacockLawnsLaw" (198 : Nat) ({ cls := "PeacockLawnsModel", name := "bench", desc := "(I)I" } : Jvm.MethodName)) ∈ lw_all := lw_g (lw_at lw_m10 120 rfl) rfl
theorem q2363 : (Jvm.Cond.methodLink "PeacockLawnsLaw" (201 : Nat) ({ cls := "PeacockLawnsModel", name := "seat", desc := "(II)I" } : Jvm.MethodName)) ∈ lw_all := lw_g (lw_at lw_m10 124 rfl) rfl
theorem q2375 : (Jvm.Cond.methodLink "PeacockLawnsLaw" (204 : Nat) ({ cls := "PeacockLawnsModel", name := "benchOf", desc := "(II)I" } : Jvm.MethodName)) ∈ lw_all := lw_g (lw_at lw_m10 136 rfl) rfl
theorem q2379 : (Jvm.Cond.methodLink "PeacockLawnsLaw" (207 : Nat) ({ cls := "PeacockLawnsModel", name := "pass", desc := "(I)I" } : Jvm.MethodName)) ∈ lw_all := lw_g (lw_at lw_m10 140 rfl) rfl
theorem q2423 : (Jvm.Cond.methodLink "PeacockLawnsLaw" (210 : Nat) ({ cls := "PeacockLawnsModel", name := "hatchesIn", desc := "(I)I" } : Jvm.MethodName)) ∈ lw_all := lw_g (lw_at lw_m10 184 rfl) rfl
theorem q2427 : (Jvm.Cond.methodLink "PeacockLawnsLaw" (213 : Nat) ({ cls := "PeacockLawnsModel", name := "wouldShed", desc := "(I)I" } : Jvm.MethodName)) ∈ lw_all := lw_g (lw_at lw_m10 188 rfl) rfl
theorem q2431 : (Jvm.Cond.methodLink "PeacockLawnsLaw" (217 : Nat) ({ cls := "PeacockLawnsModel", name := "noise", desc := "()I" } : Jvm.MethodName)) ∈ lw_all := lw_g (lw_at lw_m10 192 rfl) rfl
theorem q2435 : (Jvm.Cond.methodLink "PeacockLawnsLaw" (220 : Nat) ({ cls := "PeacockLawnsModel", name := "line", desc := "(I)I" } : Jvm.MethodName)) ∈ lw_all := lw_g (lw_at lw_m10 196 rfl) rfl
theorem q2456 : (Jvm.Cond.methodLink "PeacockLawnsLaw" (223 : Nat) ({ cls := "PeacockLawnsModel", name := "character", desc := "(I)C" } : Jvm.MethodName)) ∈ lw_all := lw_g (lw_at lw_m10 217 rfl) rfl
theorem q2460 : (Jvm.Cond.methodLink "PeacockLawnsLaw" (226 : Nat) ({ cls := "PeacockLawnsModel", name := "number", desc := "(I)I" } : Jvm.MethodName)) ∈ lw_all := lw_g (lw_at lw_m10 221 rfl) rfl
theorem q2484 : (Jvm.Cond.methodLink "PeacockLawnsLaw" (230 : Nat) ({ cls := "PeacockLawnsModel", name := "shedAgain", desc := "()I" } : Jvm.MethodName)) ∈ lw_all := lw_g (lw_at lw_m11 5 rfl) rfl
theorem q2488 : (Jvm.Cond.methodLink "PeacockLawnsLaw" (235 : Nat) ({ cls := "PeacockLawnsModel", name := "meanHeight", desc := "()D" } : Jvm.MethodName)) ∈ lw_all := lw_g (lw_at lw_m11 9 rfl) rfl
theorem q2493 : (Jvm.Cond.methodLink "PeacockLawnsLaw" (239 : Nat) ({ cls := "PeacockLawnsModel", name := "foundShare", desc := "()F" } : Jvm.MethodName)) ∈ lw_all := lw_g (lw_at lw_m11 14 rfl) rfl
theorem q2497 : (Jvm.Cond.methodLink "PeacockLawnsLaw" (243 : Nat) ({ cls := "PeacockLawnsModel", name := "feed", desc := "(C)I" } : Jvm.MethodName)) ∈ lw_all := lw_g (lw_at lw_m11 18 rfl) rfl
theorem q2501 : (Jvm.Cond.methodLink "PeacockLawnsLaw" (246 : Nat) ({ cls := "PeacockLawnsModel", name := "read", desc := "()I" } : Jvm.MethodName)) ∈ lw_all := lw_g (lw_at lw_m11 22 rfl) rfl
theorem q2558 : (Jvm.Cond.methodLink "PeacockLawnsLaw" (249 : Nat) ({ cls := "PeacockLawnsModel", name := "faultPosition", desc := "()I" } : Jvm.MethodName)) ∈ lw_all := lw_g (lw_at lw_m11 79 rfl) rfl
theorem q2562 : (Jvm.Cond.methodLink "PeacockLawnsLaw" (253 : Nat) ({ cls := "PeacockLawnsModel", name := "refusal", desc := "(IZ)I" } : Jvm.MethodName)) ∈ lw_all := lw_g (lw_at lw_m11 83 rfl) rfl
theorem q2566 : (Jvm.Cond.methodLink "PeacockLawnsLaw" (256 : Nat) ({ cls := "PeacockLawnsModel", name := "undo", desc := "()I" } : Jvm.MethodName)) ∈ lw_all := lw_g (lw_at lw_m11 87 rfl) rfl
theorem q2570 : (Jvm.Cond.methodLink "PeacockLawnsLaw" (260 : Nat) ({ cls := "PeacockLawnsModel", name := "saveSnapshot", desc := "()I" } : Jvm.MethodName)) ∈ lw_all := lw_g (lw_at lw_m11 91 rfl) rfl
theorem q2574 : (Jvm.Cond.methodLink "PeacockLawnsLaw" (263 : Nat) ({ cls := "PeacockLawnsModel", name := "restoreSnapshot", desc := "()I" } : Jvm.MethodName)) ∈ lw_all := lw_g (lw_at lw_m11 95 rfl) rfl
/-! the law's own entry -/
set_option maxRecDepth 100000
abbrev cL_law : ByteArray := code
def dkwL_law_91 : List UInt8 := [153, 0, 5, 3, 172, 167, 0, 3, 132, 5, 4, 167, 247, 64, 4, 172]
abbrev dktL_law_91 : List UInt8 := dkwL_law_91 ++ []
def dkwL_law_90 : List UInt8 := [182, 0, 138, 21, 6, 159, 0, 5, 3, 172, 21, 6, 154, 0, 15, 45, 3, 47, 21, 7, 133, 148]
abbrev dktL_law_90 : List UInt8 := dkwL_law_90 ++ dktL_law_91
def dkwL_law_89 : List UInt8 := [182, 1, 4, 159, 0, 49, 3, 172, 43, 45, 184, 1, 5, 54, 6, 44, 182, 1, 7, 54, 7, 44]
abbrev dktL_law_89 : List UInt8 := dkwL_law_89 ++ dktL_law_90
def dkwL_law_88 : List UInt8 := [154, 0, 15, 45, 3, 47, 21, 7, 133, 148, 153, 0, 5, 3, 172, 167, 0, 60, 43, 182, 1, 1, 44]
abbrev dktL_law_88 : List UInt8 := dkwL_law_88 ++ dktL_law_89
def dkwL_law_87 : List UInt8 := [184, 0, 254, 54, 6, 44, 182, 1, 0, 54, 7, 44, 182, 0, 138, 21, 6, 159, 0, 5, 3, 172, 21, 6]
abbrev dktL_law_87 : List UInt8 := dkwL_law_87 ++ dktL_law_88
def dkwL_law_86 : List UInt8 := [21, 6, 154, 0, 15, 45, 3, 47, 21, 7, 133, 148, 153, 0, 5, 3, 172, 167, 0, 104, 43, 45]
abbrev dktL_law_86 : List UInt8 := dkwL_law_86 ++ dktL_law_87
def dkwL_law_85 : List UInt8 := [153, 0, 7, 4, 167, 0, 4, 3, 182, 0, 253, 54, 7, 44, 182, 0, 138, 21, 6, 159, 0, 5, 3, 172]
abbrev dktL_law_85 : List UInt8 := dkwL_law_85 ++ dktL_law_86
def dkwL_law_84 : List UInt8 := [4, 167, 0, 4, 3, 45, 184, 0, 250, 54, 6, 44, 42, 21, 5, 4, 96, 46, 42, 21, 5, 5, 96, 46]
abbrev dktL_law_84 : List UInt8 := dkwL_law_84 ++ dktL_law_85
def dkwL_law_83 : List UInt8 := [153, 0, 5, 3, 172, 167, 0, 188, 43, 42, 21, 5, 4, 96, 46, 42, 21, 5, 5, 96, 46, 153, 0, 7]
abbrev dktL_law_83 : List UInt8 := dkwL_law_83 ++ dktL_law_84
def dkwL_law_82 : List UInt8 := [182, 0, 138, 21, 6, 159, 0, 5, 3, 172, 21, 6, 154, 0, 15, 45, 3, 47, 21, 7, 133, 148]
abbrev dktL_law_82 : List UInt8 := dkwL_law_82 ++ dktL_law_83
def dkwL_law_81 : List UInt8 := [153, 0, 5, 3, 172, 167, 0, 232, 43, 45, 184, 0, 247, 54, 6, 44, 182, 0, 249, 54, 7, 44]
abbrev dktL_law_81 : List UInt8 := dkwL_law_81 ++ dktL_law_82
def dkwL_law_80 : List UInt8 := [182, 0, 138, 21, 6, 159, 0, 5, 3, 172, 21, 6, 154, 0, 15, 45, 3, 47, 21, 7, 133, 148]
abbrev dktL_law_80 : List UInt8 := dkwL_law_80 ++ dktL_law_81
def dkwL_law_79 : List UInt8 := [148, 153, 0, 5, 3, 172, 167, 1, 20, 43, 45, 184, 0, 244, 54, 6, 44, 182, 0, 246, 54, 7, 44]
abbrev dktL_law_79 : List UInt8 := dkwL_law_79 ++ dktL_law_80
def dkwL_law_78 : List UInt8 := [54, 7, 44, 182, 0, 138, 21, 6, 159, 0, 5, 3, 172, 21, 6, 154, 0, 15, 45, 3, 47, 21, 7, 133]
abbrev dktL_law_78 : List UInt8 := dkwL_law_78 ++ dktL_law_79
def dkwL_law_77 : List UInt8 := [21, 5, 4, 96, 46, 146, 45, 184, 0, 240, 54, 6, 44, 42, 21, 5, 4, 96, 46, 146, 182, 0, 243]
abbrev dktL_law_77 : List UInt8 := dkwL_law_77 ++ dktL_law_78
def dkwL_law_76 : List UInt8 := [49, 25, 4, 3, 49, 151, 153, 0, 11, 23, 7, 23, 7, 149, 154, 0, 5, 3, 172, 167, 1, 78, 43, 42]
abbrev dktL_law_76 : List UInt8 := dkwL_law_76 ++ dktL_law_77
def dkwL_law_75 : List UInt8 := [159, 0, 5, 3, 172, 21, 6, 154, 0, 36, 25, 4, 3, 49, 23, 7, 141, 151, 153, 0, 25, 25, 4, 3]
abbrev dktL_law_75 : List UInt8 := dkwL_law_75 ++ dktL_law_76
def dkwL_law_74 : List UInt8 := [167, 1, 144, 43, 25, 4, 184, 0, 236, 54, 6, 44, 182, 0, 239, 56, 7, 44, 182, 0, 138, 21, 6]
abbrev dktL_law_74 : List UInt8 := dkwL_law_74 ++ dktL_law_75
def dkwL_law_73 : List UInt8 := [151, 153, 0, 21, 24, 6, 24, 6, 151, 153, 0, 11, 24, 8, 24, 8, 151, 154, 0, 5, 3, 172]
abbrev dktL_law_73 : List UInt8 := dkwL_law_73 ++ dktL_law_74
def dkwL_law_72 : List UInt8 := [182, 0, 230, 159, 1, 187, 3, 172, 43, 182, 0, 231, 57, 6, 44, 182, 0, 235, 57, 8, 24, 6, 24, 8]
abbrev dktL_law_72 : List UInt8 := dkwL_law_72 ++ dktL_law_73
def dkwL_law_71 : List UInt8 := [154, 0, 15, 45, 3, 47, 21, 7, 133, 148, 153, 0, 5, 3, 172, 167, 1, 198, 43, 182, 0, 227, 44]
abbrev dktL_law_71 : List UInt8 := dkwL_law_71 ++ dktL_law_72
def dkwL_law_70 : List UInt8 := [21, 5, 4, 96, 46, 182, 0, 226, 54, 7, 44, 182, 0, 138, 21, 6, 159, 0, 5, 3, 172, 21, 6]
abbrev dktL_law_70 : List UInt8 := dkwL_law_70 ++ dktL_law_71
def dkwL_law_69 : List UInt8 := [153, 0, 5, 3, 172, 167, 1, 254, 43, 42, 21, 5, 4, 96, 46, 45, 184, 0, 224, 54, 6, 44, 42]
abbrev dktL_law_69 : List UInt8 := dkwL_law_69 ++ dktL_law_70
def dkwL_law_68 : List UInt8 := [182, 0, 138, 21, 6, 159, 0, 5, 3, 172, 21, 6, 154, 0, 15, 45, 3, 47, 21, 7, 133, 148]
abbrev dktL_law_68 : List UInt8 := dkwL_law_68 ++ dktL_law_69
def dkwL_law_67 : List UInt8 := [21, 5, 4, 96, 46, 45, 184, 0, 221, 54, 6, 44, 42, 21, 5, 4, 96, 46, 182, 0, 223, 54, 7, 44]
abbrev dktL_law_67 : List UInt8 := dkwL_law_67 ++ dktL_law_68
def dkwL_law_66 : List UInt8 := [172, 21, 6, 154, 0, 15, 45, 3, 47, 21, 7, 133, 148, 153, 0, 5, 3, 172, 167, 2, 54, 43, 42]
abbrev dktL_law_66 : List UInt8 := dkwL_law_66 ++ dktL_law_67
def dkwL_law_65 : List UInt8 := [54, 6, 44, 42, 21, 5, 4, 96, 46, 182, 0, 220, 54, 7, 44, 182, 0, 138, 21, 6, 159, 0, 5, 3]
abbrev dktL_law_65 : List UInt8 := dkwL_law_65 ++ dktL_law_66
def dkwL_law_64 : List UInt8 := [182, 0, 214, 44, 182, 0, 217, 159, 2, 112, 3, 172, 43, 42, 21, 5, 4, 96, 46, 45, 184, 0, 218]
abbrev dktL_law_64 : List UInt8 := dkwL_law_64 ++ dktL_law_65
def dkwL_law_63 : List UInt8 := [172, 21, 6, 154, 0, 15, 45, 3, 47, 21, 7, 133, 148, 153, 0, 5, 3, 172, 167, 2, 123, 43]
abbrev dktL_law_63 : List UInt8 := dkwL_law_63 ++ dktL_law_64
def dkwL_law_62 : List UInt8 := [54, 6, 44, 42, 21, 5, 4, 96, 46, 182, 0, 213, 54, 7, 44, 182, 0, 138, 21, 6, 159, 0, 5, 3]
abbrev dktL_law_62 : List UInt8 := dkwL_law_62 ++ dktL_law_63
def dkwL_law_61 : List UInt8 := [21, 7, 133, 148, 153, 0, 5, 3, 172, 167, 2, 179, 43, 42, 21, 5, 4, 96, 46, 45, 184, 0, 211]
abbrev dktL_law_61 : List UInt8 := dkwL_law_61 ++ dktL_law_62
def dkwL_law_60 : List UInt8 := [182, 0, 210, 54, 7, 44, 182, 0, 138, 21, 6, 159, 0, 5, 3, 172, 21, 6, 154, 0, 15, 45, 3, 47]
abbrev dktL_law_60 : List UInt8 := dkwL_law_60 ++ dktL_law_61
def dkwL_law_59 : List UInt8 := [167, 2, 235, 43, 42, 21, 5, 4, 96, 46, 45, 184, 0, 208, 54, 6, 44, 42, 21, 5, 4, 96, 46]
abbrev dktL_law_59 : List UInt8 := dkwL_law_59 ++ dktL_law_60
def dkwL_law_58 : List UInt8 := [159, 0, 5, 3, 172, 21, 6, 154, 0, 15, 45, 3, 47, 21, 7, 133, 148, 153, 0, 5, 3, 172]
abbrev dktL_law_58 : List UInt8 := dkwL_law_58 ++ dktL_law_59
def dkwL_law_57 : List UInt8 := [184, 0, 205, 54, 6, 44, 42, 21, 5, 4, 96, 46, 182, 0, 207, 54, 7, 44, 182, 0, 138, 21, 6]
abbrev dktL_law_57 : List UInt8 := dkwL_law_57 ++ dktL_law_58
def dkwL_law_56 : List UInt8 := [3, 47, 21, 7, 133, 148, 153, 0, 5, 3, 172, 167, 3, 35, 43, 42, 21, 5, 4, 96, 46, 45]
abbrev dktL_law_56 : List UInt8 := dkwL_law_56 ++ dktL_law_57
def dkwL_law_55 : List UInt8 := [96, 46, 182, 0, 204, 54, 7, 44, 182, 0, 138, 21, 6, 159, 0, 5, 3, 172, 21, 6, 154, 0, 15, 45]
abbrev dktL_law_55 : List UInt8 := dkwL_law_55 ++ dktL_law_56
def dkwL_law_54 : List UInt8 := [46, 42, 21, 5, 5, 96, 46, 45, 184, 0, 202, 54, 6, 44, 42, 21, 5, 4, 96, 46, 42, 21, 5, 5]
abbrev dktL_law_54 : List UInt8 := dkwL_law_54 ++ dktL_law_55
def dkwL_law_53 : List UInt8 := [154, 0, 15, 45, 3, 47, 21, 7, 133, 148, 153, 0, 5, 3, 172, 167, 3, 103, 43, 42, 21, 5, 4, 96]
abbrev dktL_law_53 : List UInt8 := dkwL_law_53 ++ dktL_law_54
def dkwL_law_52 : List UInt8 := [42, 21, 5, 5, 96, 46, 182, 0, 201, 54, 7, 44, 182, 0, 138, 21, 6, 159, 0, 5, 3, 172, 21, 6]
abbrev dktL_law_52 : List UInt8 := dkwL_law_52 ++ dktL_law_53
def dkwL_law_51 : List UInt8 := [21, 5, 4, 96, 46, 42, 21, 5, 5, 96, 46, 45, 184, 0, 199, 54, 6, 44, 42, 21, 5, 4, 96, 46]
abbrev dktL_law_51 : List UInt8 := dkwL_law_51 ++ dktL_law_52
def dkwL_law_50 : List UInt8 := [172, 21, 6, 154, 0, 15, 45, 3, 47, 21, 7, 133, 148, 153, 0, 5, 3, 172, 167, 3, 171, 43, 42]
abbrev dktL_law_50 : List UInt8 := dkwL_law_50 ++ dktL_law_51
def dkwL_law_49 : List UInt8 := [54, 6, 44, 42, 21, 5, 4, 96, 46, 182, 0, 198, 54, 7, 44, 182, 0, 138, 21, 6, 159, 0, 5, 3]
abbrev dktL_law_49 : List UInt8 := dkwL_law_49 ++ dktL_law_50
def dkwL_law_48 : List UInt8 := [21, 7, 133, 148, 153, 0, 5, 3, 172, 167, 3, 227, 43, 42, 21, 5, 4, 96, 46, 45, 184, 0, 196]
abbrev dktL_law_48 : List UInt8 := dkwL_law_48 ++ dktL_law_49
def dkwL_law_47 : List UInt8 := [182, 0, 195, 54, 7, 44, 182, 0, 138, 21, 6, 159, 0, 5, 3, 172, 21, 6, 154, 0, 15, 45, 3, 47]
abbrev dktL_law_47 : List UInt8 := dkwL_law_47 ++ dktL_law_48
def dkwL_law_46 : List UInt8 := [167, 4, 27, 43, 42, 21, 5, 4, 96, 46, 45, 184, 0, 193, 54, 6, 44, 42, 21, 5, 4, 96, 46]
abbrev dktL_law_46 : List UInt8 := dkwL_law_46 ++ dktL_law_47
def dkwL_law_45 : List UInt8 := [21, 6, 159, 0, 5, 3, 172, 21, 6, 154, 0, 15, 45, 3, 47, 21, 7, 133, 148, 153, 0, 5, 3, 172]
abbrev dktL_law_45 : List UInt8 := dkwL_law_45 ++ dktL_law_46
def dkwL_law_44 : List UInt8 := [46, 45, 184, 0, 190, 54, 6, 44, 42, 21, 5, 4, 96, 46, 182, 0, 192, 54, 7, 44, 182, 0, 138]
abbrev dktL_law_44 : List UInt8 := dkwL_law_44 ++ dktL_law_45
def dkwL_law_43 : List UInt8 := [154, 0, 15, 45, 3, 47, 21, 7, 133, 148, 153, 0, 5, 3, 172, 167, 4, 83, 43, 42, 21, 5, 4, 96]
abbrev dktL_law_43 : List UInt8 := dkwL_law_43 ++ dktL_law_44
def dkwL_law_42 : List UInt8 := [21, 5, 6, 96, 46, 182, 0, 189, 54, 7, 44, 182, 0, 138, 21, 6, 159, 0, 5, 3, 172, 21, 6]
abbrev dktL_law_42 : List UInt8 := dkwL_law_42 ++ dktL_law_43
def dkwL_law_41 : List UInt8 := [6, 96, 46, 45, 184, 0, 187, 54, 6, 44, 42, 21, 5, 4, 96, 46, 42, 21, 5, 5, 96, 46, 42]
abbrev dktL_law_41 : List UInt8 := dkwL_law_41 ++ dktL_law_42
def dkwL_law_40 : List UInt8 := [153, 0, 5, 3, 172, 167, 4, 163, 43, 42, 21, 5, 4, 96, 46, 42, 21, 5, 5, 96, 46, 42, 21, 5]
abbrev dktL_law_40 : List UInt8 := dkwL_law_40 ++ dktL_law_41
def dkwL_law_39 : List UInt8 := [182, 0, 138, 21, 6, 159, 0, 5, 3, 172, 21, 6, 154, 0, 15, 45, 3, 47, 21, 7, 133, 148]
abbrev dktL_law_39 : List UInt8 := dkwL_law_39 ++ dktL_law_40
def dkwL_law_38 : List UInt8 := [184, 0, 184, 54, 6, 44, 42, 21, 5, 4, 96, 46, 42, 21, 5, 5, 96, 46, 182, 0, 186, 54, 7, 44]
abbrev dktL_law_38 : List UInt8 := dkwL_law_38 ++ dktL_law_39
def dkwL_law_37 : List UInt8 := [153, 0, 5, 3, 172, 167, 4, 231, 43, 42, 21, 5, 4, 96, 46, 42, 21, 5, 5, 96, 46, 45]
abbrev dktL_law_37 : List UInt8 := dkwL_law_37 ++ dktL_law_38
def dkwL_law_36 : List UInt8 := [182, 0, 138, 21, 6, 159, 0, 5, 3, 172, 21, 6, 154, 0, 15, 45, 3, 47, 21, 7, 133, 148]
abbrev dktL_law_36 : List UInt8 := dkwL_law_36 ++ dktL_law_37
def dkwL_law_35 : List UInt8 := [184, 0, 181, 54, 6, 44, 42, 21, 5, 4, 96, 46, 42, 21, 5, 5, 96, 46, 182, 0, 183, 54, 7, 44]
abbrev dktL_law_35 : List UInt8 := dkwL_law_35 ++ dktL_law_36
def dkwL_law_34 : List UInt8 := [153, 0, 5, 3, 172, 167, 5, 43, 43, 42, 21, 5, 4, 96, 46, 42, 21, 5, 5, 96, 46, 45]
abbrev dktL_law_34 : List UInt8 := dkwL_law_34 ++ dktL_law_35
def dkwL_law_33 : List UInt8 := [182, 0, 138, 21, 6, 159, 0, 5, 3, 172, 21, 6, 154, 0, 15, 45, 3, 47, 21, 7, 133, 148]
abbrev dktL_law_33 : List UInt8 := dkwL_law_33 ++ dktL_law_34
def dkwL_law_32 : List UInt8 := [148, 153, 0, 5, 3, 172, 167, 5, 87, 43, 45, 184, 0, 178, 54, 6, 44, 182, 0, 180, 54, 7, 44]
abbrev dktL_law_32 : List UInt8 := dkwL_law_32 ++ dktL_law_33
def dkwL_law_31 : List UInt8 := [54, 7, 44, 182, 0, 138, 21, 6, 159, 0, 5, 3, 172, 21, 6, 154, 0, 15, 45, 3, 47, 21, 7, 133]
abbrev dktL_law_31 : List UInt8 := dkwL_law_31 ++ dktL_law_32
def dkwL_law_30 : List UInt8 := [21, 7, 133, 148, 153, 0, 5, 3, 172, 167, 5, 131, 43, 45, 184, 0, 174, 54, 6, 44, 182, 0, 177]
abbrev dktL_law_30 : List UInt8 := dkwL_law_30 ++ dktL_law_31
def dkwL_law_29 : List UInt8 := [182, 0, 173, 54, 7, 44, 182, 0, 138, 21, 6, 159, 0, 5, 3, 172, 21, 6, 154, 0, 15, 45, 3, 47]
abbrev dktL_law_29 : List UInt8 := dkwL_law_29 ++ dktL_law_30
def dkwL_law_28 : List UInt8 := [5, 96, 46, 45, 184, 0, 171, 54, 6, 44, 42, 21, 5, 4, 96, 46, 42, 21, 5, 5, 96, 46]
abbrev dktL_law_28 : List UInt8 := dkwL_law_28 ++ dktL_law_29
def dkwL_law_27 : List UInt8 := [3, 47, 21, 7, 133, 148, 153, 0, 5, 3, 172, 167, 5, 199, 43, 42, 21, 5, 4, 96, 46, 42, 21, 5]
abbrev dktL_law_27 : List UInt8 := dkwL_law_27 ++ dktL_law_28
def dkwL_law_26 : List UInt8 := [96, 46, 182, 0, 170, 54, 7, 44, 182, 0, 138, 21, 6, 159, 0, 5, 3, 172, 21, 6, 154, 0, 15, 45]
abbrev dktL_law_26 : List UInt8 := dkwL_law_26 ++ dktL_law_27
def dkwL_law_25 : List UInt8 := [46, 42, 21, 5, 5, 96, 46, 45, 184, 0, 168, 54, 6, 44, 42, 21, 5, 4, 96, 46, 42, 21, 5, 5]
abbrev dktL_law_25 : List UInt8 := dkwL_law_25 ++ dktL_law_26
def dkwL_law_24 : List UInt8 := [154, 0, 15, 45, 3, 47, 21, 7, 133, 148, 153, 0, 5, 3, 172, 167, 6, 11, 43, 42, 21, 5, 4, 96]
abbrev dktL_law_24 : List UInt8 := dkwL_law_24 ++ dktL_law_25
def dkwL_law_23 : List UInt8 := [21, 5, 4, 96, 46, 182, 0, 167, 54, 7, 44, 182, 0, 138, 21, 6, 159, 0, 5, 3, 172, 21, 6]
abbrev dktL_law_23 : List UInt8 := dkwL_law_23 ++ dktL_law_24
def dkwL_law_22 : List UInt8 := [148, 153, 0, 5, 3, 172, 167, 6, 67, 43, 42, 21, 5, 4, 96, 46, 45, 184, 0, 165, 54, 6, 44, 42]
abbrev dktL_law_22 : List UInt8 := dkwL_law_22 ++ dktL_law_23
def dkwL_law_21 : List UInt8 := [54, 7, 44, 182, 0, 138, 21, 6, 159, 0, 5, 3, 172, 21, 6, 154, 0, 15, 45, 3, 47, 21, 7, 133]
abbrev dktL_law_21 : List UInt8 := dkwL_law_21 ++ dktL_law_22
def dkwL_law_20 : List UInt8 := [46, 45, 184, 0, 162, 54, 6, 44, 42, 21, 5, 4, 96, 46, 42, 21, 5, 5, 96, 46, 182, 0, 164]
abbrev dktL_law_20 : List UInt8 := dkwL_law_20 ++ dktL_law_21
def dkwL_law_19 : List UInt8 := [182, 0, 158, 44, 182, 0, 161, 159, 6, 137, 3, 172, 43, 42, 21, 5, 4, 96, 46, 42, 21, 5, 5, 96]
abbrev dktL_law_19 : List UInt8 := dkwL_law_19 ++ dktL_law_20
def dkwL_law_18 : List UInt8 := [172, 21, 6, 154, 0, 15, 45, 3, 47, 21, 7, 133, 148, 153, 0, 5, 3, 172, 167, 6, 148, 43]
abbrev dktL_law_18 : List UInt8 := dkwL_law_18 ++ dktL_law_19
def dkwL_law_17 : List UInt8 := [54, 6, 44, 42, 21, 5, 4, 96, 46, 182, 0, 157, 54, 7, 44, 182, 0, 138, 21, 6, 159, 0, 5, 3]
abbrev dktL_law_17 : List UInt8 := dkwL_law_17 ++ dktL_law_18
def dkwL_law_16 : List UInt8 := [21, 7, 133, 148, 153, 0, 5, 3, 172, 167, 6, 204, 43, 42, 21, 5, 4, 96, 46, 45, 184, 0, 155]
abbrev dktL_law_16 : List UInt8 := dkwL_law_16 ++ dktL_law_17
def dkwL_law_15 : List UInt8 := [182, 0, 154, 54, 7, 44, 182, 0, 138, 21, 6, 159, 0, 5, 3, 172, 21, 6, 154, 0, 15, 45, 3, 47]
abbrev dktL_law_15 : List UInt8 := dkwL_law_15 ++ dktL_law_16
def dkwL_law_14 : List UInt8 := [167, 7, 4, 43, 42, 21, 5, 4, 96, 46, 45, 184, 0, 152, 54, 6, 44, 42, 21, 5, 4, 96, 46]
abbrev dktL_law_14 : List UInt8 := dkwL_law_14 ++ dktL_law_15
def dkwL_law_13 : List UInt8 := [159, 0, 5, 3, 172, 21, 6, 154, 0, 15, 45, 3, 47, 21, 7, 133, 148, 153, 0, 5, 3, 172]
abbrev dktL_law_13 : List UInt8 := dkwL_law_13 ++ dktL_law_14
def dkwL_law_12 : List UInt8 := [21, 5, 4, 96, 46, 42, 21, 5, 5, 96, 46, 182, 0, 151, 54, 7, 44, 182, 0, 138, 21, 6]
abbrev dktL_law_12 : List UInt8 := dkwL_law_12 ++ dktL_law_13
def dkwL_law_11 : List UInt8 := [167, 7, 72, 43, 42, 21, 5, 4, 96, 46, 42, 21, 5, 5, 96, 46, 45, 184, 0, 148, 54, 6, 44, 42]
abbrev dktL_law_11 : List UInt8 := dkwL_law_11 ++ dktL_law_12
def dkwL_law_10 : List UInt8 := [21, 6, 159, 0, 5, 3, 172, 21, 6, 154, 0, 15, 45, 3, 47, 21, 7, 133, 148, 153, 0, 5, 3, 172]
abbrev dktL_law_10 : List UInt8 := dkwL_law_10 ++ dktL_law_11
def dkwL_law_9 : List UInt8 := [46, 45, 184, 0, 145, 54, 6, 44, 42, 21, 5, 4, 96, 46, 182, 0, 147, 54, 7, 44, 182, 0, 138]
abbrev dktL_law_9 : List UInt8 := dkwL_law_9 ++ dktL_law_10
def dkwL_law_8 : List UInt8 := [154, 0, 15, 45, 3, 47, 21, 7, 133, 148, 153, 0, 5, 3, 172, 167, 7, 128, 43, 42, 21, 5, 4, 96]
abbrev dktL_law_8 : List UInt8 := dkwL_law_8 ++ dktL_law_9
def dkwL_law_7 : List UInt8 := [21, 5, 4, 96, 46, 182, 0, 144, 54, 7, 44, 182, 0, 138, 21, 6, 159, 0, 5, 3, 172, 21, 6]
abbrev dktL_law_7 : List UInt8 := dkwL_law_7 ++ dktL_law_8
def dkwL_law_6 : List UInt8 := [148, 153, 0, 5, 3, 172, 167, 7, 184, 43, 42, 21, 5, 4, 96, 46, 45, 184, 0, 141, 54, 6, 44, 42]
abbrev dktL_law_6 : List UInt8 := dkwL_law_6 ++ dktL_law_7
def dkwL_law_5 : List UInt8 := [54, 7, 44, 182, 0, 138, 21, 6, 159, 0, 5, 3, 172, 21, 6, 154, 0, 15, 45, 3, 47, 21, 7, 133]
abbrev dktL_law_5 : List UInt8 := dkwL_law_5 ++ dktL_law_6
def dkwL_law_4 : List UInt8 := [54, 6, 44, 42, 21, 5, 4, 96, 46, 42, 21, 5, 5, 96, 46, 42, 21, 5, 6, 96, 46, 182, 0, 137]
abbrev dktL_law_4 : List UInt8 := dkwL_law_4 ++ dktL_law_5
def dkwL_law_3 : List UInt8 := [43, 42, 21, 5, 4, 96, 46, 42, 21, 5, 5, 96, 46, 42, 21, 5, 6, 96, 46, 45, 184, 0, 132]
abbrev dktL_law_3 : List UInt8 := dkwL_law_3 ++ dktL_law_4
def dkwL_law_2 : List UInt8 := [170, 0, 0, 0, 0, 0, 8, 173, 0, 0, 0, 0, 0, 0, 0, 37, 0, 0, 0, 168, 0, 0, 0, 248, 0, 0, 1, 48, 0, 0, 1, 104, 0, 0, 1, 172, 0, 0, 1, 228, 0, 0, 2, 28, 0, 0, 2, 41, 0, 0, 2, 109, 0, 0, 2, 165, 0, 0, 2, 233, 0, 0, 3, 45, 0, 0, 3, 89, 0, 0, 3, 133, 0, 0, 3, 201, 0, 0, 4, 13, 0, 0, 4, 93, 0, 0, 4, 149, 0, 0, 4, 205, 0, 0, 5, 5, 0, 0, 5, 73, 0, 0, 5, 141, 0, 0, 5, 197, 0, 0, 5, 253, 0, 0, 6, 53, 0, 0, 6, 66, 0, 0, 6, 122, 0, 0, 6, 178, 0, 0, 6, 234, 0, 0, 6, 247, 0, 0, 7, 32, 0, 0, 7, 98, 0, 0, 7, 156, 0, 0, 7, 200, 0, 0, 7, 244, 0, 0, 8, 72, 0, 0, 8, 116, 0, 0, 8, 129]
abbrev dktL_law_2 : List UInt8 := dkwL_law_2 ++ dktL_law_3
def dkwL_law_1 : List UInt8 := [58, 4, 3, 54, 5, 21, 5, 42, 190, 7, 100, 163, 8, 189, 42, 21, 5, 46, 16, 63, 126]
abbrev dktL_law_1 : List UInt8 := dkwL_law_1 ++ dktL_law_2
def dkwL_law_0 : List UInt8 := [187, 0, 8, 89, 183, 0, 128, 76, 187, 0, 129, 89, 183, 0, 131, 77, 4, 188, 11, 78, 4, 188, 7]
abbrev dktL_law_0 : List UInt8 := dkwL_law_0 ++ dktL_law_1
theorem dksL_law_0 : cL_law.data.toList.drop 0 = dktL_law_0 := by decide +kernel
theorem dksL_law_1 : cL_law.data.toList.drop 23 = dktL_law_1 := dk_seg dksL_law_0 23 rfl rfl
theorem dksL_law_2 : cL_law.data.toList.drop 44 = dktL_law_2 := dk_seg dksL_law_1 21 rfl rfl
theorem dksL_law_3 : cL_law.data.toList.drop 212 = dktL_law_3 := dk_seg dksL_law_2 168 rfl rfl
theorem dksL_law_4 : cL_law.data.toList.drop 235 = dktL_law_4 := dk_seg dksL_law_3 23 rfl rfl
theorem dksL_law_5 : cL_law.data.toList.drop 259 = dktL_law_5 := dk_seg dksL_law_4 24 rfl rfl
theorem dksL_law_6 : cL_law.data.toList.drop 283 = dktL_law_6 := dk_seg dksL_law_5 24 rfl rfl
theorem dksL_law_7 : cL_law.data.toList.drop 307 = dktL_law_7 := dk_seg dksL_law_6 24 rfl rfl
theorem dksL_law_8 : cL_law.data.toList.drop 330 = dktL_law_8 := dk_seg dksL_law_7 23 rfl rfl
theorem dksL_law_9 : cL_law.data.toList.drop 354 = dktL_law_9 := dk_seg dksL_law_8 24 rfl rfl
theorem dksL_law_10 : cL_law.data.toList.drop 377 = dktL_law_10 := dk_seg dksL_law_9 23 rfl rfl
theorem dksL_law_11 : cL_law.data.toList.drop 401 = dktL_law_11 := dk_seg dksL_law_10 24 rfl rfl
theorem dksL_law_12 : cL_law.data.toList.drop 425 = dktL_law_12 := dk_seg dksL_law_11 24 rfl rfl
theorem dksL_law_13 : cL_law.data.toList.drop 447 = dktL_law_13 := dk_seg dksL_law_12 22 rfl rfl
theorem dksL_law_14 : cL_law.data.toList.drop 469 = dktL_law_14 := dk_seg dksL_law_13 22 rfl rfl
theorem dksL_law_15 : cL_law.data.toList.drop 492 = dktL_law_15 := dk_seg dksL_law_14 23 rfl rfl
theorem dksL_law_16 : cL_law.data.toList.drop 516 = dktL_law_16 := dk_seg dksL_law_15 24 rfl rfl
theorem dksL_law_17 : cL_law.data.toList.drop 539 = dktL_law_17 := dk_seg dksL_law_16 23 rfl rfl
theorem dksL_law_18 : cL_law.data.toList.drop 563 = dktL_law_18 := dk_seg dksL_law_17 24 rfl rfl
theorem dksL_law_19 : cL_law.data.toList.drop 585 = dktL_law_19 := dk_seg dksL_law_18 22 rfl rfl
theorem dksL_law_20 : cL_law.data.toList.drop 609 = dktL_law_20 := dk_seg dksL_law_19 24 rfl rfl
theorem dksL_law_21 : cL_law.data.toList.drop 632 = dktL_law_21 := dk_seg dksL_law_20 23 rfl rfl
theorem dksL_law_22 : cL_law.data.toList.drop 656 = dktL_law_22 := dk_seg dksL_law_21 24 rfl rfl
theorem dksL_law_23 : cL_law.data.toList.drop 680 = dktL_law_23 := dk_seg dksL_law_22 24 rfl rfl
theorem dksL_law_24 : cL_law.data.toList.drop 703 = dktL_law_24 := dk_seg dksL_law_23 23 rfl rfl
theorem dksL_law_25 : cL_law.data.toList.drop 727 = dktL_law_25 := dk_seg dksL_law_24 24 rfl rfl
theorem dksL_law_26 : cL_law.data.toList.drop 751 = dktL_law_26 := dk_seg dksL_law_25 24 rfl rfl
theorem dksL_law_27 : cL_law.data.toList.drop 775 = dktL_law_27 := dk_seg dksL_law_26 24 rfl rfl
theorem dksL_law_28 : cL_law.data.toList.drop 799 = dktL_law_28 := dk_seg dksL_law_27 24 rfl rfl
theorem dksL_law_29 : cL_law.data.toList.drop 821 = dktL_law_29 := dk_seg dksL_law_28 22 rfl rfl
theorem dksL_law_30 : cL_law.data.toList.drop 845 = dktL_law_30 := dk_seg dksL_law_29 24 rfl rfl
theorem dksL_law_31 : cL_law.data.toList.drop 868 = dktL_law_31 := dk_seg dksL_law_30 23 rfl rfl
theorem dksL_law_32 : cL_law.data.toList.drop 892 = dktL_law_32 := dk_seg dksL_law_31 24 rfl rfl
theorem dksL_law_33 : cL_law.data.toList.drop 915 = dktL_law_33 := dk_seg dksL_law_32 23 rfl rfl
theorem dksL_law_34 : cL_law.data.toList.drop 937 = dktL_law_34 := dk_seg dksL_law_33 22 rfl rfl
theorem dksL_law_35 : cL_law.data.toList.drop 959 = dktL_law_35 := dk_seg dksL_law_34 22 rfl rfl
theorem dksL_law_36 : cL_law.data.toList.drop 983 = dktL_law_36 := dk_seg dksL_law_35 24 rfl rfl
theorem dksL_law_37 : cL_law.data.toList.drop 1005 = dktL_law_37 := dk_seg dksL_law_36 22 rfl rfl
theorem dksL_law_38 : cL_law.data.toList.drop 1027 = dktL_law_38 := dk_seg dksL_law_37 22 rfl rfl
theorem dksL_law_39 : cL_law.data.toList.drop 1051 = dktL_law_39 := dk_seg dksL_law_38 24 rfl rfl
theorem dksL_law_40 : cL_law.data.toList.drop 1073 = dktL_law_40 := dk_seg dksL_law_39 22 rfl rfl
theorem dksL_law_41 : cL_law.data.toList.drop 1097 = dktL_law_41 := dk_seg dksL_law_40 24 rfl rfl
theorem dksL_law_42 : cL_law.data.toList.drop 1120 = dktL_law_42 := dk_seg dksL_law_41 23 rfl rfl
theorem dksL_law_43 : cL_law.data.toList.drop 1143 = dktL_law_43 := dk_seg dksL_law_42 23 rfl rfl
theorem dksL_law_44 : cL_law.data.toList.drop 1167 = dktL_law_44 := dk_seg dksL_law_43 24 rfl rfl
theorem dksL_law_45 : cL_law.data.toList.drop 1190 = dktL_law_45 := dk_seg dksL_law_44 23 rfl rfl
theorem dksL_law_46 : cL_law.data.toList.drop 1214 = dktL_law_46 := dk_seg dksL_law_45 24 rfl rfl
theorem dksL_law_47 : cL_law.data.toList.drop 1237 = dktL_law_47 := dk_seg dksL_law_46 23 rfl rfl
theorem dksL_law_48 : cL_law.data.toList.drop 1261 = dktL_law_48 := dk_seg dksL_law_47 24 rfl rfl
theorem dksL_law_49 : cL_law.data.toList.drop 1284 = dktL_law_49 := dk_seg dksL_law_48 23 rfl rfl
theorem dksL_law_50 : cL_law.data.toList.drop 1308 = dktL_law_50 := dk_seg dksL_law_49 24 rfl rfl
theorem dksL_law_51 : cL_law.data.toList.drop 1331 = dktL_law_51 := dk_seg dksL_law_50 23 rfl rfl
theorem dksL_law_52 : cL_law.data.toList.drop 1355 = dktL_law_52 := dk_seg dksL_law_51 24 rfl rfl
theorem dksL_law_53 : cL_law.data.toList.drop 1379 = dktL_law_53 := dk_seg dksL_law_52 24 rfl rfl
theorem dksL_law_54 : cL_law.data.toList.drop 1403 = dktL_law_54 := dk_seg dksL_law_53 24 rfl rfl
theorem dksL_law_55 : cL_law.data.toList.drop 1427 = dktL_law_55 := dk_seg dksL_law_54 24 rfl rfl
theorem dksL_law_56 : cL_law.data.toList.drop 1451 = dktL_law_56 := dk_seg dksL_law_55 24 rfl rfl
theorem dksL_law_57 : cL_law.data.toList.drop 1473 = dktL_law_57 := dk_seg dksL_law_56 22 rfl rfl
theorem dksL_law_58 : cL_law.data.toList.drop 1496 = dktL_law_58 := dk_seg dksL_law_57 23 rfl rfl
theorem dksL_law_59 : cL_law.data.toList.drop 1518 = dktL_law_59 := dk_seg dksL_law_58 22 rfl rfl
theorem dksL_law_60 : cL_law.data.toList.drop 1541 = dktL_law_60 := dk_seg dksL_law_59 23 rfl rfl
theorem dksL_law_61 : cL_law.data.toList.drop 1565 = dktL_law_61 := dk_seg dksL_law_60 24 rfl rfl
theorem dksL_law_62 : cL_law.data.toList.drop 1588 = dktL_law_62 := dk_seg dksL_law_61 23 rfl rfl
theorem dksL_law_63 : cL_law.data.toList.drop 1612 = dktL_law_63 := dk_seg dksL_law_62 24 rfl rfl
theorem dksL_law_64 : cL_law.data.toList.drop 1634 = dktL_law_64 := dk_seg dksL_law_63 22 rfl rfl
theorem dksL_law_65 : cL_law.data.toList.drop 1657 = dktL_law_65 := dk_seg dksL_law_64 23 rfl rfl
theorem dksL_law_66 : cL_law.data.toList.drop 1681 = dktL_law_66 := dk_seg dksL_law_65 24 rfl rfl
theorem dksL_law_67 : cL_law.data.toList.drop 1704 = dktL_law_67 := dk_seg dksL_law_66 23 rfl rfl
theorem dksL_law_68 : cL_law.data.toList.drop 1728 = dktL_law_68 := dk_seg dksL_law_67 24 rfl rfl
theorem dksL_law_69 : cL_law.data.toList.drop 1750 = dktL_law_69 := dk_seg dksL_law_68 22 rfl rfl
theorem dksL_law_70 : cL_law.data.toList.drop 1773 = dktL_law_70 := dk_seg dksL_law_69 23 rfl rfl
theorem dksL_law_71 : cL_law.data.toList.drop 1796 = dktL_law_71 := dk_seg dksL_law_70 23 rfl rfl
theorem dksL_law_72 : cL_law.data.toList.drop 1819 = dktL_law_72 := dk_seg dksL_law_71 23 rfl rfl
theorem dksL_law_73 : cL_law.data.toList.drop 1843 = dktL_law_73 := dk_seg dksL_law_72 24 rfl rfl
theorem dksL_law_74 : cL_law.data.toList.drop 1865 = dktL_law_74 := dk_seg dksL_law_73 22 rfl rfl
theorem dksL_law_75 : cL_law.data.toList.drop 1888 = dktL_law_75 := dk_seg dksL_law_74 23 rfl rfl
theorem dksL_law_76 : cL_law.data.toList.drop 1912 = dktL_law_76 := dk_seg dksL_law_75 24 rfl rfl
theorem dksL_law_77 : cL_law.data.toList.drop 1936 = dktL_law_77 := dk_seg dksL_law_76 24 rfl rfl
theorem dksL_law_78 : cL_law.data.toList.drop 1959 = dktL_law_78 := dk_seg dksL_law_77 23 rfl rfl
theorem dksL_law_79 : cL_law.data.toList.drop 1983 = dktL_law_79 := dk_seg dksL_law_78 24 rfl rfl
theorem dksL_law_80 : cL_law.data.toList.drop 2006 = dktL_law_80 := dk_seg dksL_law_79 23 rfl rfl
theorem dksL_law_81 : cL_law.data.toList.drop 2028 = dktL_law_81 := dk_seg dksL_law_80 22 rfl rfl
theorem dksL_law_82 : cL_law.data.toList.drop 2050 = dktL_law_82 := dk_seg dksL_law_81 22 rfl rfl
theorem dksL_law_83 : cL_law.data.toList.drop 2072 = dktL_law_83 := dk_seg dksL_law_82 22 rfl rfl
theorem dksL_law_84 : cL_law.data.toList.drop 2096 = dktL_law_84 := dk_seg dksL_law_83 24 rfl rfl
theorem dksL_law_85 : cL_law.data.toList.drop 2120 = dktL_law_85 := dk_seg dksL_law_84 24 rfl rfl
theorem dksL_law_86 : cL_law.data.toList.drop 2144 = dktL_law_86 := dk_seg dksL_law_85 24 rfl rfl
theorem dksL_law_87 : cL_law.data.toList.drop 2166 = dktL_law_87 := dk_seg dksL_law_86 22 rfl rfl
theorem dksL_law_88 : cL_law.data.toList.drop 2190 = dktL_law_88 := dk_seg dksL_law_87 24 rfl rfl
theorem dksL_law_89 : cL_law.data.toList.drop 2213 = dktL_law_89 := dk_seg dksL_law_88 23 rfl rfl
theorem dksL_law_90 : cL_law.data.toList.drop 2235 = dktL_law_90 := dk_seg dksL_law_89 22 rfl rfl
theorem dksL_law_91 : cL_law.data.toList.drop 2257 = dktL_law_91 := dk_seg dksL_law_90 22 rfl rfl
theorem dL_law_0 : decode cL_law 0 = .ok (.new 8, 3) := dk_187 0 8 (dk_at dksL_law_0 0 rfl rfl)
theorem dL_law_3 : decode cL_law 3 = .ok (.dup, 1) := dk_89 (dk_at dksL_law_0 3 rfl rfl)
theorem dL_law_4 : decode cL_law 4 = .ok (.invokespecial 128, 3) := dk_183 0 128 (dk_at dksL_law_0 4 rfl rfl)
theorem dL_law_7 : decode cL_law 7 = .ok (.astore_n 1, 1) := dk_76 (dk_at dksL_law_0 7 rfl rfl)
theorem dL_law_8 : decode cL_law 8 = .ok (.new 129, 3) := dk_187 0 129 (dk_at dksL_law_0 8 rfl rfl)
theorem dL_law_11 : decode cL_law 11 = .ok (.dup, 1) := dk_89 (dk_at dksL_law_0 11 rfl rfl)
theorem dL_law_12 : decode cL_law 12 = .ok (.invokespecial 131, 3) := dk_183 0 131 (dk_at dksL_law_0 12 rfl rfl)
theorem dL_law_15 : decode cL_law 15 = .ok (.astore_n 2, 1) := dk_77 (dk_at dksL_law_0 15 rfl rfl)
theorem dL_law_16 : decode cL_law 16 = .ok (.iconst 1, 1) := dk_4 (dk_at dksL_law_0 16 rfl rfl)
theorem dL_law_17 : decode cL_law 17 = .ok (.newarray .long, 2) := dk_188_11 (dk_at dksL_law_0 17 rfl rfl)
theorem dL_law_19 : decode cL_law 19 = .ok (.astore_n 3, 1) := dk_78 (dk_at dksL_law_0 19 rfl rfl)
theorem dL_law_20 : decode cL_law 20 = .ok (.iconst 1, 1) := dk_4 (dk_at dksL_law_0 20 rfl rfl)
theorem dL_law_21 : decode cL_law 21 = .ok (.newarray .double, 2) := dk_188_7 (dk_at dksL_law_0 21 rfl rfl)
theorem dL_law_23 : decode cL_law 23 = .ok (.astore 4, 2) := dk_58 4 (dk_at dksL_law_1 0 rfl rfl)
theorem dL_law_25 : decode cL_law 25 = .ok (.iconst 0, 1) := dk_3 (dk_at dksL_law_1 2 rfl rfl)
theorem dL_law_26 : decode cL_law 26 = .ok (.istore 5, 2) := dk_54 5 (dk_at dksL_law_1 3 rfl rfl)
theorem dL_law_28 : decode cL_law 28 = .ok (.iload 5, 2) := dk_21 5 (dk_at dksL_law_1 5 rfl rfl)
theorem dL_law_30 : decode cL_law 30 = .ok (.aload_n 0, 1) := dk_42 (dk_at dksL_law_1 7 rfl rfl)
theorem dL_law_31 : decode cL_law 31 = .ok (.arraylength, 1) := dk_190 (dk_at dksL_law_1 8 rfl rfl)
theorem dL_law_32 : decode cL_law 32 = .ok (.iconst 4, 1) := dk_7 (dk_at dksL_law_1 9 rfl rfl)
theorem dL_law_33 : decode cL_law 33 = .ok (.isub, 1) := dk_100 (dk_at dksL_law_1 10 rfl rfl)
theorem dL_law_34 : decode cL_law 34 = .ok (.if_icmp .gt 2237, 3) := dk_163 8 189 (dk_at dksL_law_1 11 rfl rfl)
theorem dL_law_37 : decode cL_law 37 = .ok (.aload_n 0, 1) := dk_42 (dk_at dksL_law_1 14 rfl rfl)
theorem dL_law_38 : decode cL_law 38 = .ok (.iload 5, 2) := dk_21 5 (dk_at dksL_law_1 15 rfl rfl)
theorem dL_law_40 : decode cL_law 40 = .ok (.iaload, 1) := dk_46 (dk_at dksL_law_1 17 rfl rfl)
theorem dL_law_41 : decode cL_law 41 = .ok (.bipush 63, 2) := dk_16 63 (dk_at dksL_law_1 18 rfl rfl)
theorem dL_law_43 : decode cL_law 43 = .ok (.iand, 1) := dk_126 (dk_at dksL_law_1 20 rfl rfl)
theorem dL_law_44 : decode cL_law 44 = .ok (.tableswitch 2221 0 37 #[168, 248, 304, 360, 428, 484, 540, 553, 621, 677, 745, 813, 857, 901, 969, 1037, 1117, 1173, 1229, 1285, 1353, 1421, 1477, 1533, 1589, 1602, 1658, 1714, 1770, 1783, 1824, 1890, 1948, 1992, 2036, 2120, 2164, 2177], 168) := by decide +kernel
theorem dL_law_212 : decode cL_law 212 = .ok (.aload_n 1, 1) := dk_43 (dk_at dksL_law_3 0 rfl rfl)
theorem dL_law_213 : decode cL_law 213 = .ok (.aload_n 0, 1) := dk_42 (dk_at dksL_law_3 1 rfl rfl)
theorem dL_law_214 : decode cL_law 214 = .ok (.iload 5, 2) := dk_21 5 (dk_at dksL_law_3 2 rfl rfl)
theorem dL_law_216 : decode cL_law 216 = .ok (.iconst 1, 1) := dk_4 (dk_at dksL_law_3 4 rfl rfl)
theorem dL_law_217 : decode cL_law 217 = .ok (.iadd, 1) := dk_96 (dk_at dksL_law_3 5 rfl rfl)
theorem dL_law_218 : decode cL_law 218 = .ok (.iaload, 1) := dk_46 (dk_at dksL_law_3 6 rfl rfl)
theorem dL_law_219 : decode cL_law 219 = .ok (.aload_n 0, 1) := dk_42 (dk_at dksL_law_3 7 rfl rfl)
theorem dL_law_220 : decode cL_law 220 = .ok (.iload 5, 2) := dk_21 5 (dk_at dksL_law_3 8 rfl rfl)
theorem dL_law_222 : decode cL_law 222 = .ok (.iconst 2, 1) := dk_5 (dk_at dksL_law_3 10 rfl rfl)
theorem dL_law_223 : decode cL_law 223 = .ok (.iadd, 1) := dk_96 (dk_at dksL_law_3 11 rfl rfl)
theorem dL_law_224 : decode cL_law 224 = .ok (.iaload, 1) := dk_46 (dk_at dksL_law_3 12 rfl rfl)
theorem dL_law_225 : decode cL_law 225 = .ok (.aload_n 0, 1) := dk_42 (dk_at dksL_law_3 13 rfl rfl)
theorem dL_law_226 : decode cL_law 226 = .ok (.iload 5, 2) := dk_21 5 (dk_at dksL_law_3 14 rfl rfl)
theorem dL_law_228 : decode cL_law 228 = .ok (.iconst 3, 1) := dk_6 (dk_at dksL_law_3 16 rfl rfl)
theorem dL_law_229 : decode cL_law 229 = .ok (.iadd, 1) := dk_96 (dk_at dksL_law_3 17 rfl rfl)
theorem dL_law_230 : decode cL_law 230 = .ok (.iaload, 1) := dk_46 (dk_at dksL_law_3 18 rfl rfl)
theorem dL_law_231 : decode cL_law 231 = .ok (.aload_n 3, 1) := dk_45 (dk_at dksL_law_3 19 rfl rfl)
theorem dL_law_232 : decode cL_law 232 = .ok (.invokestatic 132, 3) := dk_184 0 132 (dk_at dksL_law_3 20 rfl rfl)
theorem dL_law_235 : decode cL_law 235 = .ok (.istore 6, 2) := dk_54 6 (dk_at dksL_law_4 0 rfl rfl)
theorem dL_law_237 : decode cL_law 237 = .ok (.aload_n 2, 1) := dk_44 (dk_at dksL_law_4 2 rfl rfl)
theorem dL_law_238 : decode cL_law 238 = .ok (.aload_n 0, 1) := dk_42 (dk_at dksL_law_4 3 rfl rfl)
theorem dL_law_239 : decode cL_law 239 = .ok (.iload 5, 2) := dk_21 5 (dk_at dksL_law_4 4 rfl rfl)
theorem dL_law_241 : decode cL_law 241 = .ok (.iconst 1, 1) := dk_4 (dk_at dksL_law_4 6 rfl rfl)
theorem dL_law_242 : decode cL_law 242 = .ok (.iadd, 1) := dk_96 (dk_at dksL_law_4 7 rfl rfl)
theorem dL_law_243 : decode cL_law 243 = .ok (.iaload, 1) := dk_46 (dk_at dksL_law_4 8 rfl rfl)
theorem dL_law_244 : decode cL_law 244 = .ok (.aload_n 0, 1) := dk_42 (dk_at dksL_law_4 9 rfl rfl)
theorem dL_law_245 : decode cL_law 245 = .ok (.iload 5, 2) := dk_21 5 (dk_at dksL_law_4 10 rfl rfl)
theorem dL_law_247 : decode cL_law 247 = .ok (.iconst 2, 1) := dk_5 (dk_at dksL_law_4 12 rfl rfl)
theorem dL_law_248 : decode cL_law 248 = .ok (.iadd, 1) := dk_96 (dk_at dksL_law_4 13 rfl rfl)
theorem dL_law_249 : decode cL_law 249 = .ok (.iaload, 1) := dk_46 (dk_at dksL_law_4 14 rfl rfl)
theorem dL_law_250 : decode cL_law 250 = .ok (.aload_n 0, 1) := dk_42 (dk_at dksL_law_4 15 rfl rfl)
theorem dL_law_251 : decode cL_law 251 = .ok (.iload 5, 2) := dk_21 5 (dk_at dksL_law_4 16 rfl rfl)
theorem dL_law_253 : decode cL_law 253 = .ok (.iconst 3, 1) := dk_6 (dk_at dksL_law_4 18 rfl rfl)
theorem dL_law_254 : decode cL_law 254 = .ok (.iadd, 1) := dk_96 (dk_at dksL_law_4 19 rfl rfl)
theorem dL_law_255 : decode cL_law 255 = .ok (.iaload, 1) := dk_46 (dk_at dksL_law_4 20 rfl rfl)
theorem dL_law_256 : decode cL_law 256 = .ok (.invokevirtual 137, 3) := dk_182 0 137 (dk_at dksL_law_4 21 rfl rfl)
theorem dL_law_259 : decode cL_law 259 = .ok (.istore 7, 2) := dk_54 7 (dk_at dksL_law_5 0 rfl rfl)
theorem dL_law_261 : decode cL_law 261 = .ok (.aload_n 2, 1) := dk_44 (dk_at dksL_law_5 2 rfl rfl)
theorem dL_law_262 : decode cL_law 262 = .ok (.invokevirtual 138, 3) := dk_182 0 138 (dk_at dksL_law_5 3 rfl rfl)
theorem dL_law_265 : decode cL_law 265 = .ok (.iload 6, 2) := dk_21 6 (dk_at dksL_law_5 6 rfl rfl)
theorem dL_law_267 : decode cL_law 267 = .ok (.if_icmp .eq 5, 3) := dk_159 0 5 (dk_at dksL_law_5 8 rfl rfl)
theorem dL_law_270 : decode cL_law 270 = .ok (.iconst 0, 1) := dk_3 (dk_at dksL_law_5 11 rfl rfl)
theorem dL_law_271 : decode cL_law 271 = .ok (.ireturn, 1) := dk_172 (dk_at dksL_law_5 12 rfl rfl)
theorem dL_law_272 : decode cL_law 272 = .ok (.iload 6, 2) := dk_21 6 (dk_at dksL_law_5 13 rfl rfl)
theorem dL_law_274 : decode cL_law 274 = .ok (.ifCond .ne 15, 3) := dk_154 0 15 (dk_at dksL_law_5 15 rfl rfl)
theorem dL_law_277 : decode cL_law 277 = .ok (.aload_n 3, 1) := dk_45 (dk_at dksL_law_5 18 rfl rfl)
theorem dL_law_278 : decode cL_law 278 = .ok (.iconst 0, 1) := dk_3 (dk_at dksL_law_5 19 rfl rfl)
theorem dL_law_279 : decode cL_law 279 = .ok (.laload, 1) := dk_47 (dk_at dksL_law_5 20 rfl rfl)
theorem dL_law_280 : decode cL_law 280 = .ok (.iload 7, 2) := dk_21 7 (dk_at dksL_law_5 21 rfl rfl)
theorem dL_law_282 : decode cL_law 282 = .ok (.i2l, 1) := dk_133 (dk_at dksL_law_5 23 rfl rfl)
theorem dL_law_283 : decode cL_law 283 = .ok (.lcmp, 1) := dk_148 (dk_at dksL_law_6 0 rfl rfl)
theorem dL_law_284 : decode cL_law 284 = .ok (.ifCond .eq 5, 3) := dk_153 0 5 (dk_at dksL_law_6 1 rfl rfl)
theorem dL_law_287 : decode cL_law 287 = .ok (.iconst 0, 1) := dk_3 (dk_at dksL_law_6 4 rfl rfl)
theorem dL_law_288 : decode cL_law 288 = .ok (.ireturn, 1) := dk_172 (dk_at dksL_law_6 5 rfl rfl)
theorem dL_law_289 : decode cL_law 289 = .ok (.goto 1976, 3) := dk_167 7 184 (dk_at dksL_law_6 6 rfl rfl)
theorem dL_law_292 : decode cL_law 292 = .ok (.aload_n 1, 1) := dk_43 (dk_at dksL_law_6 9 rfl rfl)
theorem dL_law_293 : decode cL_law 293 = .ok (.aload_n 0, 1) := dk_42 (dk_at dksL_law_6 10 rfl rfl)
theorem dL_law_294 : decode cL_law 294 = .ok (.iload 5, 2) := dk_21 5 (dk_at dksL_law_6 11 rfl rfl)
theorem dL_law_296 : decode cL_law 296 = .ok (.iconst 1, 1) := dk_4 (dk_at dksL_law_6 13 rfl rfl)
theorem dL_law_297 : decode cL_law 297 = .ok (.iadd, 1) := dk_96 (dk_at dksL_law_6 14 rfl rfl)
theorem dL_law_298 : decode cL_law 298 = .ok (.iaload, 1) := dk_46 (dk_at dksL_law_6 15 rfl rfl)
theorem dL_law_299 : decode cL_law 299 = .ok (.aload_n 3, 1) := dk_45 (dk_at dksL_law_6 16 rfl rfl)
theorem dL_law_300 : decode cL_law 300 = .ok (.invokestatic 141, 3) := dk_184 0 141 (dk_at dksL_law_6 17 rfl rfl)
theorem dL_law_303 : decode cL_law 303 = .ok (.istore 6, 2) := dk_54 6 (dk_at dksL_law_6 20 rfl rfl)
theorem dL_law_305 : decode cL_law 305 = .ok (.aload_n 2, 1) := dk_44 (dk_at dksL_law_6 22 rfl rfl)
theorem dL_law_306 : decode cL_law 306 = .ok (.aload_n 0, 1) := dk_42 (dk_at dksL_law_6 23 rfl rfl)
theorem dL_law_307 : decode cL_law 307 = .ok (.iload 5, 2) := dk_21 5 (dk_at dksL_law_7 0 rfl rfl)
theorem dL_law_309 : decode cL_law 309 = .ok (.iconst 1, 1) := dk_4 (dk_at dksL_law_7 2 rfl rfl)
theorem dL_law_310 : decode cL_law 310 = .ok (.iadd, 1) := dk_96 (dk_at dksL_law_7 3 rfl rfl)
theorem dL_law_311 : decode cL_law 311 = .ok (.iaload, 1) := dk_46 (dk_at dksL_law_7 4 rfl rfl)
theorem dL_law_312 : decode cL_law 312 = .ok (.invokevirtual 144, 3) := dk_182 0 144 (dk_at dksL_law_7 5 rfl rfl)
theorem dL_law_315 : decode cL_law 315 = .ok (.istore 7, 2) := dk_54 7 (dk_at dksL_law_7 8 rfl rfl)
theorem dL_law_317 : decode cL_law 317 = .ok (.aload_n 2, 1) := dk_44 (dk_at dksL_law_7 10 rfl rfl)
theorem dL_law_318 : decode cL_law 318 = .ok (.invokevirtual 138, 3) := dk_182 0 138 (dk_at dksL_law_7 11 rfl rfl)
theorem dL_law_321 : decode cL_law 321 = .ok (.iload 6, 2) := dk_21 6 (dk_at dksL_law_7 14 rfl rfl)
theorem dL_law_323 : decode cL_law 323 = .ok (.if_icmp .eq 5, 3) := dk_159 0 5 (dk_at dksL_law_7 16 rfl rfl)
theorem dL_law_326 : decode cL_law 326 = .ok (.iconst 0, 1) := dk_3 (dk_at dksL_law_7 19 rfl rfl)
theorem dL_law_327 : decode cL_law 327 = .ok (.ireturn, 1) := dk_172 (dk_at dksL_law_7 20 rfl rfl)
theorem dL_law_328 : decode cL_law 328 = .ok (.iload 6, 2) := dk_21 6 (dk_at dksL_law_7 21 rfl rfl)
theorem dL_law_330 : decode cL_law 330 = .ok (.ifCond .ne 15, 3) := dk_154 0 15 (dk_at dksL_law_8 0 rfl rfl)
theorem dL_law_333 : decode cL_law 333 = .ok (.aload_n 3, 1) := dk_45 (dk_at dksL_law_8 3 rfl rfl)
theorem dL_law_334 : decode cL_law 334 = .ok (.iconst 0, 1) := dk_3 (dk_at dksL_law_8 4 rfl rfl)
theorem dL_law_335 : decode cL_law 335 = .ok (.laload, 1) := dk_47 (dk_at dksL_law_8 5 rfl rfl)
theorem dL_law_336 : decode cL_law 336 = .ok (.iload 7, 2) := dk_21 7 (dk_at dksL_law_8 6 rfl rfl)
theorem dL_law_338 : decode cL_law 338 = .ok (.i2l, 1) := dk_133 (dk_at dksL_law_8 8 rfl rfl)
theorem dL_law_339 : decode cL_law 339 = .ok (.lcmp, 1) := dk_148 (dk_at dksL_law_8 9 rfl rfl)
theorem dL_law_340 : decode cL_law 340 = .ok (.ifCond .eq 5, 3) := dk_153 0 5 (dk_at dksL_law_8 10 rfl rfl)
theorem dL_law_343 : decode cL_law 343 = .ok (.iconst 0, 1) := dk_3 (dk_at dksL_law_8 13 rfl rfl)
theorem dL_law_344 : decode cL_law 344 = .ok (.ireturn, 1) := dk_172 (dk_at dksL_law_8 14 rfl rfl)
theorem dL_law_345 : decode cL_law 345 = .ok (.goto 1920, 3) := dk_167 7 128 (dk_at dksL_law_8 15 rfl rfl)
theorem dL_law_348 : decode cL_law 348 = .ok (.aload_n 1, 1) := dk_43 (dk_at dksL_law_8 18 rfl rfl)
theorem dL_law_349 : decode cL_law 349 = .ok (.aload_n 0, 1) := dk_42 (dk_at dksL_law_8 19 rfl rfl)
theorem dL_law_350 : decode cL_law 350 = .ok (.iload 5, 2) := dk_21 5 (dk_at dksL_law_8 20 rfl rfl)
theorem dL_law_352 : decode cL_law 352 = .ok (.iconst 1, 1) := dk_4 (dk_at dksL_law_8 22 rfl rfl)
theorem dL_law_353 : decode cL_law 353 = .ok (.iadd, 1) := dk_96 (dk_at dksL_law_8 23 rfl rfl)
theorem dL_law_354 : decode cL_law 354 = .ok (.iaload, 1) := dk_46 (dk_at dksL_law_9 0 rfl rfl)
theorem dL_law_355 : decode cL_law 355 = .ok (.aload_n 3, 1) := dk_45 (dk_at dksL_law_9 1 rfl rfl)
theorem dL_law_356 : decode cL_law 356 = .ok (.invokestatic 145, 3) := dk_184 0 145 (dk_at dksL_law_9 2 rfl rfl)
theorem dL_law_359 : decode cL_law 359 = .ok (.istore 6, 2) := dk_54 6 (dk_at dksL_law_9 5 rfl rfl)
theorem dL_law_361 : decode cL_law 361 = .ok (.aload_n 2, 1) := dk_44 (dk_at dksL_law_9 7 rfl rfl)
theorem dL_law_362 : decode cL_law 362 = .ok (.aload_n 0, 1) := dk_42 (dk_at dksL_law_9 8 rfl rfl)
theorem dL_law_363 : decode cL_law 363 = .ok (.iload 5, 2) := dk_21 5 (dk_at dksL_law_9 9 rfl rfl)
theorem dL_law_365 : decode cL_law 365 = .ok (.iconst 1, 1) := dk_4 (dk_at dksL_law_9 11 rfl rfl)
theorem dL_law_366 : decode cL_law 366 = .ok (.iadd, 1) := dk_96 (dk_at dksL_law_9 12 rfl rfl)
theorem dL_law_367 : decode cL_law 367 = .ok (.iaload, 1) := dk_46 (dk_at dksL_law_9 13 rfl rfl)
theorem dL_law_368 : decode cL_law 368 = .ok (.invokevirtual 147, 3) := dk_182 0 147 (dk_at dksL_law_9 14 rfl rfl)
theorem dL_law_371 : decode cL_law 371 = .ok (.istore 7, 2) := dk_54 7 (dk_at dksL_law_9 17 rfl rfl)
theorem dL_law_373 : decode cL_law 373 = .ok (.aload_n 2, 1) := dk_44 (dk_at dksL_law_9 19 rfl rfl)
theorem dL_law_374 : decode cL_law 374 = .ok (.invokevirtual 138, 3) := dk_182 0 138 (dk_at dksL_law_9 20 rfl rfl)
theorem dL_law_377 : decode cL_law 377 = .ok (.iload 6, 2) := dk_21 6 (dk_at dksL_law_10 0 rfl rfl)
theorem dL_law_379 : decode cL_law 379 = .ok (.if_icmp .eq 5, 3) := dk_159 0 5 (dk_at dksL_law_10 2 rfl rfl)
theorem dL_law_382 : decode cL_law 382 = .ok (.iconst 0, 1) := dk_3 (dk_at dksL_law_10 5 rfl rfl)
theorem dL_law_383 : decode cL_law 383 = .ok (.ireturn, 1) := dk_172 (dk_at dksL_law_10 6 rfl rfl)
theorem dL_law_384 : decode cL_law 384 = .ok (.iload 6, 2) := dk_21 6 (dk_at dksL_law_10 7 rfl rfl)
theorem dL_law_386 : decode cL_law 386 = .ok (.ifCond .ne 15, 3) := dk_154 0 15 (dk_at dksL_law_10 9 rfl rfl)
theorem dL_law_389 : decode cL_law 389 = .ok (.aload_n 3, 1) := dk_45 (dk_at dksL_law_10 12 rfl rfl)
theorem dL_law_390 : decode cL_law 390 = .ok (.iconst 0, 1) := dk_3 (dk_at dksL_law_10 13 rfl rfl)
theorem dL_law_391 : decode cL_law 391 = .ok (.laload, 1) := dk_47 (dk_at dksL_law_10 14 rfl rfl)
theorem dL_law_392 : decode cL_law 392 = .ok (.iload 7, 2) := dk_21 7 (dk_at dksL_law_10 15 rfl rfl)
theorem dL_law_394 : decode cL_law 394 = .ok (.i2l, 1) := dk_133 (dk_at dksL_law_10 17 rfl rfl)
theorem dL_law_395 : decode cL_law 395 = .ok (.lcmp, 1) := dk_148 (dk_at dksL_law_10 18 rfl rfl)
theorem dL_law_396 : decode cL_law 396 = .ok (.ifCond .eq 5, 3) := dk_153 0 5 (dk_at dksL_law_10 19 rfl rfl)
theorem dL_law_399 : decode cL_law 399 = .ok (.iconst 0, 1) := dk_3 (dk_at dksL_law_10 22 rfl rfl)
theorem dL_law_400 : decode cL_law 400 = .ok (.ireturn, 1) := dk_172 (dk_at dksL_law_10 23 rfl rfl)
theorem dL_law_401 : decode cL_law 401 = .ok (.goto 1864, 3) := dk_167 7 72 (dk_at dksL_law_11 0 rfl rfl)
theorem dL_law_404 : decode cL_law 404 = .ok (.aload_n 1, 1) := dk_43 (dk_at dksL_law_11 3 rfl rfl)
theorem dL_law_405 : decode cL_law 405 = .ok (.aload_n 0, 1) := dk_42 (dk_at dksL_law_11 4 rfl rfl)
theorem dL_law_406 : decode cL_law 406 = .ok (.iload 5, 2) := dk_21 5 (dk_at dksL_law_11 5 rfl rfl)
theorem dL_law_408 : decode cL_law 408 = .ok (.iconst 1, 1) := dk_4 (dk_at dksL_law_11 7 rfl rfl)
theorem dL_law_409 : decode cL_law 409 = .ok (.iadd, 1) := dk_96 (dk_at dksL_law_11 8 rfl rfl)
theorem dL_law_410 : decode cL_law 410 = .ok (.iaload, 1) := dk_46 (dk_at dksL_law_11 9 rfl rfl)
theorem dL_law_411 : decode cL_law 411 = .ok (.aload_n 0, 1) := dk_42 (dk_at dksL_law_11 10 rfl rfl)
theorem dL_law_412 : decode cL_law 412 = .ok (.iload 5, 2) := dk_21 5 (dk_at dksL_law_11 11 rfl rfl)
theorem dL_law_414 : decode cL_law 414 = .ok (.iconst 2, 1) := dk_5 (dk_at dksL_law_11 13 rfl rfl)
theorem dL_law_415 : decode cL_law 415 = .ok (.iadd, 1) := dk_96 (dk_at dksL_law_11 14 rfl rfl)
theorem dL_law_416 : decode cL_law 416 = .ok (.iaload, 1) := dk_46 (dk_at dksL_law_11 15 rfl rfl)
theorem dL_law_417 : decode cL_law 417 = .ok (.aload_n 3, 1) := dk_45 (dk_at dksL_law_11 16 rfl rfl)
theorem dL_law_418 : decode cL_law 418 = .ok (.invokestatic 148, 3) := dk_184 0 148 (dk_at dksL_law_11 17 rfl rfl)
theorem dL_law_421 : decode cL_law 421 = .ok (.istore 6, 2) := dk_54 6 (dk_at dksL_law_11 20 rfl rfl)
theorem dL_law_423 : decode cL_law 423 = .ok (.aload_n 2, 1) := dk_44 (dk_at dksL_law_11 22 rfl rfl)
theorem dL_law_424 : decode cL_law 424 = .ok (.aload_n 0, 1) := dk_42 (dk_at dksL_law_11 23 rfl rfl)
theorem dL_law_425 : decode cL_law 425 = .ok (.iload 5, 2) := dk_21 5 (dk_at dksL_law_12 0 rfl rfl)
theorem dL_law_427 : decode cL_law 427 = .ok (.iconst 1, 1) := dk_4 (dk_at dksL_law_12 2 rfl rfl)
theorem dL_law_428 : decode cL_law 428 = .ok (.iadd, 1) := dk_96 (dk_at dksL_law_12 3 rfl rfl)
theorem dL_law_429 : decode cL_law 429 = .ok (.iaload, 1) := dk_46 (dk_at dksL_law_12 4 rfl rfl)
theorem dL_law_430 : decode cL_law 430 = .ok (.aload_n 0, 1) := dk_42 (dk_at dksL_law_12 5 rfl rfl)
theorem dL_law_431 : decode cL_law 431 = .ok (.iload 5, 2) := dk_21 5 (dk_at dksL_law_12 6 rfl rfl)
theorem dL_law_433 : decode cL_law 433 = .ok (.iconst 2, 1) := dk_5 (dk_at dksL_law_12 8 rfl rfl)
theorem dL_law_434 : decode cL_law 434 = .ok (.iadd, 1) := dk_96 (dk_at dksL_law_12 9 rfl rfl)
theorem dL_law_435 : decode cL_law 435 = .ok (.iaload, 1) := dk_46 (dk_at dksL_law_12 10 rfl rfl)
theorem dL_law_436 : decode cL_law 436 = .ok (.invokevirtual 151, 3) := dk_182 0 151 (dk_at dksL_law_12 11 rfl rfl)
theorem dL_law_439 : decode cL_law 439 = .ok (.istore 7, 2) := dk_54 7 (dk_at dksL_law_12 14 rfl rfl)
theorem dL_law_441 : decode cL_law 441 = .ok (.aload_n 2, 1) := dk_44 (dk_at dksL_law_12 16 rfl rfl)
theorem dL_law_442 : decode cL_law 442 = .ok (.invokevirtual 138, 3) := dk_182 0 138 (dk_at dksL_law_12 17 rfl rfl)
theorem dL_law_445 : decode cL_law 445 = .ok (.iload 6, 2) := dk_21 6 (dk_at dksL_law_12 20 rfl rfl)
theorem dL_law_447 : decode cL_law 447 = .ok (.if_icmp .eq 5, 3) := dk_159 0 5 (dk_at dksL_law_13 0 rfl rfl)
theorem dL_law_450 : decode cL_law 450 = .ok (.iconst 0, 1) := dk_3 (dk_at dksL_law_13 3 rfl rfl)
theorem dL_law_451 : decode cL_law 451 = .ok (.ireturn, 1) := dk_172 (dk_at dksL_law_13 4 rfl rfl)
theorem dL_law_452 : decode cL_law 452 = .ok (.iload 6, 2) := dk_21 6 (dk_at dksL_law_13 5 rfl rfl)
theorem dL_law_454 : decode cL_law 454 = .ok (.ifCond .ne 15, 3) := dk_154 0 15 (dk_at dksL_law_13 7 rfl rfl)
theorem dL_law_457 : decode cL_law 457 = .ok (.aload_n 3, 1) := dk_45 (dk_at dksL_law_13 10 rfl rfl)
theorem dL_law_458 : decode cL_law 458 = .ok (.iconst 0, 1) := dk_3 (dk_at dksL_law_13 11 rfl rfl)
theorem dL_law_459 : decode cL_law 459 = .ok (.laload, 1) := dk_47 (dk_at dksL_law_13 12 rfl rfl)
theorem dL_law_460 : decode cL_law 460 = .ok (.iload 7, 2) := dk_21 7 (dk_at dksL_law_13 13 rfl rfl)
theorem dL_law_462 : decode cL_law 462 = .ok (.i2l, 1) := dk_133 (dk_at dksL_law_13 15 rfl rfl)
theorem dL_law_463 : decode cL_law 463 = .ok (.lcmp, 1) := dk_148 (dk_at dksL_law_13 16 rfl rfl)
theorem dL_law_464 : decode cL_law 464 = .ok (.ifCond .eq 5, 3) := dk_153 0 5 (dk_at dksL_law_13 17 rfl rfl)
theorem dL_law_467 : decode cL_law 467 = .ok (.iconst 0, 1) := dk_3 (dk_at dksL_law_13 20 rfl rfl)
theorem dL_law_468 : decode cL_law 468 = .ok (.ireturn, 1) := dk_172 (dk_at dksL_law_13 21 rfl rfl)
theorem dL_law_469 : decode cL_law 469 = .ok (.goto 1796, 3) := dk_167 7 4 (dk_at dksL_law_14 0 rfl rfl)
theorem dL_law_472 : decode cL_law 472 = .ok (.aload_n 1, 1) := dk_43 (dk_at dksL_law_14 3 rfl rfl)
theorem dL_law_473 : decode cL_law 473 = .ok (.aload_n 0, 1) := dk_42 (dk_at dksL_law_14 4 rfl rfl)
theorem dL_law_474 : decode cL_law 474 = .ok (.iload 5, 2) := dk_21 5 (dk_at dksL_law_14 5 rfl rfl)
theorem dL_law_476 : decode cL_law 476 = .ok (.iconst 1, 1) := dk_4 (dk_at dksL_law_14 7 rfl rfl)
theorem dL_law_477 : decode cL_law 477 = .ok (.iadd, 1) := dk_96 (dk_at dksL_law_14 8 rfl rfl)
theorem dL_law_478 : decode cL_law 478 = .ok (.iaload, 1) := dk_46 (dk_at dksL_law_14 9 rfl rfl)
theorem dL_law_479 : decode cL_law 479 = .ok (.aload_n 3, 1) := dk_45 (dk_at dksL_law_14 10 rfl rfl)
theorem dL_law_480 : decode cL_law 480 = .ok (.invokestatic 152, 3) := dk_184 0 152 (dk_at dksL_law_14 11 rfl rfl)
theorem dL_law_483 : decode cL_law 483 = .ok (.istore 6, 2) := dk_54 6 (dk_at dksL_law_14 14 rfl rfl)
theorem dL_law_485 : decode cL_law 485 = .ok (.aload_n 2, 1) := dk_44 (dk_at dksL_law_14 16 rfl rfl)
theorem dL_law_486 : decode cL_law 486 = .ok (.aload_n 0, 1) := dk_42 (dk_at dksL_law_14 17 rfl rfl)
theorem dL_law_487 : decode cL_law 487 = .ok (.iload 5, 2) := dk_21 5 (dk_at dksL_law_14 18 rfl rfl)
theorem dL_law_489 : decode cL_law 489 = .ok (.iconst 1, 1) := dk_4 (dk_at dksL_law_14 20 rfl rfl)
theorem dL_law_490 : decode cL_law 490 = .ok (.iadd, 1) := dk_96 (dk_at dksL_law_14 21 rfl rfl)
theorem dL_law_491 : decode cL_law 491 = .ok (.iaload, 1) := dk_46 (dk_at dksL_law_14 22 rfl rfl)
theorem dL_law_492 : decode cL_law 492 = .ok (.invokevirtual 154, 3) := dk_182 0 154 (dk_at dksL_law_15 0 rfl rfl)
theorem dL_law_495 : decode cL_law 495 = .ok (.istore 7, 2) := dk_54 7 (dk_at dksL_law_15 3 rfl rfl)
theorem dL_law_497 : decode cL_law 497 = .ok (.aload_n 2, 1) := dk_44 (dk_at dksL_law_15 5 rfl rfl)
theorem dL_law_498 : decode cL_law 498 = .ok (.invokevirtual 138, 3) := dk_182 0 138 (dk_at dksL_law_15 6 rfl rfl)
theorem dL_law_501 : decode cL_law 501 = .ok (.iload 6, 2) := dk_21 6 (dk_at dksL_law_15 9 rfl rfl)
theorem dL_law_503 : decode cL_law 503 = .ok (.if_icmp .eq 5, 3) := dk_159 0 5 (dk_at dksL_law_15 11 rfl rfl)
theorem dL_law_506 : decode cL_law 506 = .ok (.iconst 0, 1) := dk_3 (dk_at dksL_law_15 14 rfl rfl)
theorem dL_law_507 : decode cL_law 507 = .ok (.ireturn, 1) := dk_172 (dk_at dksL_law_15 15 rfl rfl)
theorem dL_law_508 : decode cL_law 508 = .ok (.iload 6, 2) := dk_21 6 (dk_at dksL_law_15 16 rfl rfl)
theorem dL_law_510 : decode cL_law 510 = .ok (.ifCond .ne 15, 3) := dk_154 0 15 (dk_at dksL_law_15 18 rfl rfl)
theorem dL_law_513 : decode cL_law 513 = .ok (.aload_n 3, 1) := dk_45 (dk_at dksL_law_15 21 rfl rfl)
theorem dL_law_514 : decode cL_law 514 = .ok (.iconst 0, 1) := dk_3 (dk_at dksL_law_15 22 rfl rfl)
theorem dL_law_515 : decode cL_law 515 = .ok (.laload, 1) := dk_47 (dk_at dksL_law_15 23 rfl rfl)
theorem dL_law_516 : decode cL_law 516 = .ok (.iload 7, 2) := dk_21 7 (dk_at dksL_law_16 0 rfl rfl)
theorem dL_law_518 : decode cL_law 518 = .ok (.i2l, 1) := dk_133 (dk_at dksL_law_16 2 rfl rfl)
theorem dL_law_519 : decode cL_law 519 = .ok (.lcmp, 1) := dk_148 (dk_at dksL_law_16 3 rfl rfl)
theorem dL_law_520 : decode cL_law 520 = .ok (.ifCond .eq 5, 3) := dk_153 0 5 (dk_at dksL_law_16 4 rfl rfl)
theorem dL_law_523 : decode cL_law 523 = .ok (.iconst 0, 1) := dk_3 (dk_at dksL_law_16 7 rfl rfl)
theorem dL_law_524 : decode cL_law 524 = .ok (.ireturn, 1) := dk_172 (dk_at dksL_law_16 8 rfl rfl)
theorem dL_law_525 : decode cL_law 525 = .ok (.goto 1740, 3) := dk_167 6 204 (dk_at dksL_law_16 9 rfl rfl)
theorem dL_law_528 : decode cL_law 528 = .ok (.aload_n 1, 1) := dk_43 (dk_at dksL_law_16 12 rfl rfl)
theorem dL_law_529 : decode cL_law 529 = .ok (.aload_n 0, 1) := dk_42 (dk_at dksL_law_16 13 rfl rfl)
theorem dL_law_530 : decode cL_law 530 = .ok (.iload 5, 2) := dk_21 5 (dk_at dksL_law_16 14 rfl rfl)
theorem dL_law_532 : decode cL_law 532 = .ok (.iconst 1, 1) := dk_4 (dk_at dksL_law_16 16 rfl rfl)
theorem dL_law_533 : decode cL_law 533 = .ok (.iadd, 1) := dk_96 (dk_at dksL_law_16 17 rfl rfl)
theorem dL_law_534 : decode cL_law 534 = .ok (.iaload, 1) := dk_46 (dk_at dksL_law_16 18 rfl rfl)
theorem dL_law_535 : decode cL_law 535 = .ok (.aload_n 3, 1) := dk_45 (dk_at dksL_law_16 19 rfl rfl)
theorem dL_law_536 : decode cL_law 536 = .ok (.invokestatic 155, 3) := dk_184 0 155 (dk_at dksL_law_16 20 rfl rfl)
theorem dL_law_539 : decode cL_law 539 = .ok (.istore 6, 2) := dk_54 6 (dk_at dksL_law_17 0 rfl rfl)
theorem dL_law_541 : decode cL_law 541 = .ok (.aload_n 2, 1) := dk_44 (dk_at dksL_law_17 2 rfl rfl)
theorem dL_law_542 : decode cL_law 542 = .ok (.aload_n 0, 1) := dk_42 (dk_at dksL_law_17 3 rfl rfl)
theorem dL_law_543 : decode cL_law 543 = .ok (.iload 5, 2) := dk_21 5 (dk_at dksL_law_17 4 rfl rfl)
theorem dL_law_545 : decode cL_law 545 = .ok (.iconst 1, 1) := dk_4 (dk_at dksL_law_17 6 rfl rfl)
theorem dL_law_546 : decode cL_law 546 = .ok (.iadd, 1) := dk_96 (dk_at dksL_law_17 7 rfl rfl)
theorem dL_law_547 : decode cL_law 547 = .ok (.iaload, 1) := dk_46 (dk_at dksL_law_17 8 rfl rfl)
theorem dL_law_548 : decode cL_law 548 = .ok (.invokevirtual 157, 3) := dk_182 0 157 (dk_at dksL_law_17 9 rfl rfl)
theorem dL_law_551 : decode cL_law 551 = .ok (.istore 7, 2) := dk_54 7 (dk_at dksL_law_17 12 rfl rfl)
theorem dL_law_553 : decode cL_law 553 = .ok (.aload_n 2, 1) := dk_44 (dk_at dksL_law_17 14 rfl rfl)
theorem dL_law_554 : decode cL_law 554 = .ok (.invokevirtual 138, 3) := dk_182 0 138 (dk_at dksL_law_17 15 rfl rfl)
theorem dL_law_557 : decode cL_law 557 = .ok (.iload 6, 2) := dk_21 6 (dk_at dksL_law_17 18 rfl rfl)
theorem dL_law_559 : decode cL_law 559 = .ok (.if_icmp .eq 5, 3) := dk_159 0 5 (dk_at dksL_law_17 20 rfl rfl)
theorem dL_law_562 : decode cL_law 562 = .ok (.iconst 0, 1) := dk_3 (dk_at dksL_law_17 23 rfl rfl)
theorem dL_law_563 : decode cL_law 563 = .ok (.ireturn, 1) := dk_172 (dk_at dksL_law_18 0 rfl rfl)
theorem dL_law_564 : decode cL_law 564 = .ok (.iload 6, 2) := dk_21 6 (dk_at dksL_law_18 1 rfl rfl)
theorem dL_law_566 : decode cL_law 566 = .ok (.ifCond .ne 15, 3) := dk_154 0 15 (dk_at dksL_law_18 3 rfl rfl)
theorem dL_law_569 : decode cL_law 569 = .ok (.aload_n 3, 1) := dk_45 (dk_at dksL_law_18 6 rfl rfl)
theorem dL_law_570 : decode cL_law 570 = .ok (.iconst 0, 1) := dk_3 (dk_at dksL_law_18 7 rfl rfl)
theorem dL_law_571 : decode cL_law 571 = .ok (.laload, 1) := dk_47 (dk_at dksL_law_18 8 rfl rfl)
theorem dL_law_572 : decode cL_law 572 = .ok (.iload 7, 2) := dk_21 7 (dk_at dksL_law_18 9 rfl rfl)
theorem dL_law_574 : decode cL_law 574 = .ok (.i2l, 1) := dk_133 (dk_at dksL_law_18 11 rfl rfl)
theorem dL_law_575 : decode cL_law 575 = .ok (.lcmp, 1) := dk_148 (dk_at dksL_law_18 12 rfl rfl)
theorem dL_law_576 : decode cL_law 576 = .ok (.ifCond .eq 5, 3) := dk_153 0 5 (dk_at dksL_law_18 13 rfl rfl)
theorem dL_law_579 : decode cL_law 579 = .ok (.iconst 0, 1) := dk_3 (dk_at dksL_law_18 16 rfl rfl)
theorem dL_law_580 : decode cL_law 580 = .ok (.ireturn, 1) := dk_172 (dk_at dksL_law_18 17 rfl rfl)
theorem dL_law_581 : decode cL_law 581 = .ok (.goto 1684, 3) := dk_167 6 148 (dk_at dksL_law_18 18 rfl rfl)
theorem dL_law_584 : decode cL_law 584 = .ok (.aload_n 1, 1) := dk_43 (dk_at dksL_law_18 21 rfl rfl)
theorem dL_law_585 : decode cL_law 585 = .ok (.invokevirtual 158, 3) := dk_182 0 158 (dk_at dksL_law_19 0 rfl rfl)
theorem dL_law_588 : decode cL_law 588 = .ok (.aload_n 2, 1) := dk_44 (dk_at dksL_law_19 3 rfl rfl)
theorem dL_law_589 : decode cL_law 589 = .ok (.invokevirtual 161, 3) := dk_182 0 161 (dk_at dksL_law_19 4 rfl rfl)
theorem dL_law_592 : decode cL_law 592 = .ok (.if_icmp .eq 1673, 3) := dk_159 6 137 (dk_at dksL_law_19 7 rfl rfl)
theorem dL_law_595 : decode cL_law 595 = .ok (.iconst 0, 1) := dk_3 (dk_at dksL_law_19 10 rfl rfl)
theorem dL_law_596 : decode cL_law 596 = .ok (.ireturn, 1) := dk_172 (dk_at dksL_law_19 11 rfl rfl)
theorem dL_law_597 : decode cL_law 597 = .ok (.aload_n 1, 1) := dk_43 (dk_at dksL_law_19 12 rfl rfl)
theorem dL_law_598 : decode cL_law 598 = .ok (.aload_n 0, 1) := dk_42 (dk_at dksL_law_19 13 rfl rfl)
theorem dL_law_599 : decode cL_law 599 = .ok (.iload 5, 2) := dk_21 5 (dk_at dksL_law_19 14 rfl rfl)
theorem dL_law_601 : decode cL_law 601 = .ok (.iconst 1, 1) := dk_4 (dk_at dksL_law_19 16 rfl rfl)
theorem dL_law_602 : decode cL_law 602 = .ok (.iadd, 1) := dk_96 (dk_at dksL_law_19 17 rfl rfl)
theorem dL_law_603 : decode cL_law 603 = .ok (.iaload, 1) := dk_46 (dk_at dksL_law_19 18 rfl rfl)
theorem dL_law_604 : decode cL_law 604 = .ok (.aload_n 0, 1) := dk_42 (dk_at dksL_law_19 19 rfl rfl)
theorem dL_law_605 : decode cL_law 605 = .ok (.iload 5, 2) := dk_21 5 (dk_at dksL_law_19 20 rfl rfl)
theorem dL_law_607 : decode cL_law 607 = .ok (.iconst 2, 1) := dk_5 (dk_at dksL_law_19 22 rfl rfl)
theorem dL_law_608 : decode cL_law 608 = .ok (.iadd, 1) := dk_96 (dk_at dksL_law_19 23 rfl rfl)
theorem dL_law_609 : decode cL_law 609 = .ok (.iaload, 1) := dk_46 (dk_at dksL_law_20 0 rfl rfl)
theorem dL_law_610 : decode cL_law 610 = .ok (.aload_n 3, 1) := dk_45 (dk_at dksL_law_20 1 rfl rfl)
theorem dL_law_611 : decode cL_law 611 = .ok (.invokestatic 162, 3) := dk_184 0 162 (dk_at dksL_law_20 2 rfl rfl)
theorem dL_law_614 : decode cL_law 614 = .ok (.istore 6, 2) := dk_54 6 (dk_at dksL_law_20 5 rfl rfl)
theorem dL_law_616 : decode cL_law 616 = .ok (.aload_n 2, 1) := dk_44 (dk_at dksL_law_20 7 rfl rfl)
theorem dL_law_617 : decode cL_law 617 = .ok (.aload_n 0, 1) := dk_42 (dk_at dksL_law_20 8 rfl rfl)
theorem dL_law_618 : decode cL_law 618 = .ok (.iload 5, 2) := dk_21 5 (dk_at dksL_law_20 9 rfl rfl)
theorem dL_law_620 : decode cL_law 620 = .ok (.iconst 1, 1) := dk_4 (dk_at dksL_law_20 11 rfl rfl)
theorem dL_law_621 : decode cL_law 621 = .ok (.iadd, 1) := dk_96 (dk_at dksL_law_20 12 rfl rfl)
theorem dL_law_622 : decode cL_law 622 = .ok (.iaload, 1) := dk_46 (dk_at dksL_law_20 13 rfl rfl)
theorem dL_law_623 : decode cL_law 623 = .ok (.aload_n 0, 1) := dk_42 (dk_at dksL_law_20 14 rfl rfl)
theorem dL_law_624 : decode cL_law 624 = .ok (.iload 5, 2) := dk_21 5 (dk_at dksL_law_20 15 rfl rfl)
theorem dL_law_626 : decode cL_law 626 = .ok (.iconst 2, 1) := dk_5 (dk_at dksL_law_20 17 rfl rfl)
theorem dL_law_627 : decode cL_law 627 = .ok (.iadd, 1) := dk_96 (dk_at dksL_law_20 18 rfl rfl)
theorem dL_law_628 : decode cL_law 628 = .ok (.iaload, 1) := dk_46 (dk_at dksL_law_20 19 rfl rfl)
theorem dL_law_629 : decode cL_law 629 = .ok (.invokevirtual 164, 3) := dk_182 0 164 (dk_at dksL_law_20 20 rfl rfl)
theorem dL_law_632 : decode cL_law 632 = .ok (.istore 7, 2) := dk_54 7 (dk_at dksL_law_21 0 rfl rfl)
theorem dL_law_634 : decode cL_law 634 = .ok (.aload_n 2, 1) := dk_44 (dk_at dksL_law_21 2 rfl rfl)
theorem dL_law_635 : decode cL_law 635 = .ok (.invokevirtual 138, 3) := dk_182 0 138 (dk_at dksL_law_21 3 rfl rfl)
theorem dL_law_638 : decode cL_law 638 = .ok (.iload 6, 2) := dk_21 6 (dk_at dksL_law_21 6 rfl rfl)
theorem dL_law_640 : decode cL_law 640 = .ok (.if_icmp .eq 5, 3) := dk_159 0 5 (dk_at dksL_law_21 8 rfl rfl)
theorem dL_law_643 : decode cL_law 643 = .ok (.iconst 0, 1) := dk_3 (dk_at dksL_law_21 11 rfl rfl)
theorem dL_law_644 : decode cL_law 644 = .ok (.ireturn, 1) := dk_172 (dk_at dksL_law_21 12 rfl rfl)
theorem dL_law_645 : decode cL_law 645 = .ok (.iload 6, 2) := dk_21 6 (dk_at dksL_law_21 13 rfl rfl)
theorem dL_law_647 : decode cL_law 647 = .ok (.ifCond .ne 15, 3) := dk_154 0 15 (dk_at dksL_law_21 15 rfl rfl)
theorem dL_law_650 : decode cL_law 650 = .ok (.aload_n 3, 1) := dk_45 (dk_at dksL_law_21 18 rfl rfl)
theorem dL_law_651 : decode cL_law 651 = .ok (.iconst 0, 1) := dk_3 (dk_at dksL_law_21 19 rfl rfl)
theorem dL_law_652 : decode cL_law 652 = .ok (.laload, 1) := dk_47 (dk_at dksL_law_21 20 rfl rfl)
theorem dL_law_653 : decode cL_law 653 = .ok (.iload 7, 2) := dk_21 7 (dk_at dksL_law_21 21 rfl rfl)
theorem dL_law_655 : decode cL_law 655 = .ok (.i2l, 1) := dk_133 (dk_at dksL_law_21 23 rfl rfl)
theorem dL_law_656 : decode cL_law 656 = .ok (.lcmp, 1) := dk_148 (dk_at dksL_law_22 0 rfl rfl)
theorem dL_law_657 : decode cL_law 657 = .ok (.ifCond .eq 5, 3) := dk_153 0 5 (dk_at dksL_law_22 1 rfl rfl)
theorem dL_law_660 : decode cL_law 660 = .ok (.iconst 0, 1) := dk_3 (dk_at dksL_law_22 4 rfl rfl)
theorem dL_law_661 : decode cL_law 661 = .ok (.ireturn, 1) := dk_172 (dk_at dksL_law_22 5 rfl rfl)
theorem dL_law_662 : decode cL_law 662 = .ok (.goto 1603, 3) := dk_167 6 67 (dk_at dksL_law_22 6 rfl rfl)
theorem dL_law_665 : decode cL_law 665 = .ok (.aload_n 1, 1) := dk_43 (dk_at dksL_law_22 9 rfl rfl)
theorem dL_law_666 : decode cL_law 666 = .ok (.aload_n 0, 1) := dk_42 (dk_at dksL_law_22 10 rfl rfl)
theorem dL_law_667 : decode cL_law 667 = .ok (.iload 5, 2) := dk_21 5 (dk_at dksL_law_22 11 rfl rfl)
theorem dL_law_669 : decode cL_law 669 = .ok (.iconst 1, 1) := dk_4 (dk_at dksL_law_22 13 rfl rfl)
theorem dL_law_670 : decode cL_law 670 = .ok (.iadd, 1) := dk_96 (dk_at dksL_law_22 14 rfl rfl)
theorem dL_law_671 : decode cL_law 671 = .ok (.iaload, 1) := dk_46 (dk_at dksL_law_22 15 rfl rfl)
theorem dL_law_672 : decode cL_law 672 = .ok (.aload_n 3, 1) := dk_45 (dk_at dksL_law_22 16 rfl rfl)
theorem dL_law_673 : decode cL_law 673 = .ok (.invokestatic 165, 3) := dk_184 0 165 (dk_at dksL_law_22 17 rfl rfl)
theorem dL_law_676 : decode cL_law 676 = .ok (.istore 6, 2) := dk_54 6 (dk_at dksL_law_22 20 rfl rfl)
theorem dL_law_678 : decode cL_law 678 = .ok (.aload_n 2, 1) := dk_44 (dk_at dksL_law_22 22 rfl rfl)
theorem dL_law_679 : decode cL_law 679 = .ok (.aload_n 0, 1) := dk_42 (dk_at dksL_law_22 23 rfl rfl)
theorem dL_law_680 : decode cL_law 680 = .ok (.iload 5, 2) := dk_21 5 (dk_at dksL_law_23 0 rfl rfl)
theorem dL_law_682 : decode cL_law 682 = .ok (.iconst 1, 1) := dk_4 (dk_at dksL_law_23 2 rfl rfl)
theorem dL_law_683 : decode cL_law 683 = .ok (.iadd, 1) := dk_96 (dk_at dksL_law_23 3 rfl rfl)
theorem dL_law_684 : decode cL_law 684 = .ok (.iaload, 1) := dk_46 (dk_at dksL_law_23 4 rfl rfl)
theorem dL_law_685 : decode cL_law 685 = .ok (.invokevirtual 167, 3) := dk_182 0 167 (dk_at dksL_law_23 5 rfl rfl)
theorem dL_law_688 : decode cL_law 688 = .ok (.istore 7, 2) := dk_54 7 (dk_at dksL_law_23 8 rfl rfl)
theorem dL_law_690 : decode cL_law 690 = .ok (.aload_n 2, 1) := dk_44 (dk_at dksL_law_23 10 rfl rfl)
theorem dL_law_691 : decode cL_law 691 = .ok (.invokevirtual 138, 3) := dk_182 0 138 (dk_at dksL_law_23 11 rfl rfl)
theorem dL_law_694 : decode cL_law 694 = .ok (.iload 6, 2) := dk_21 6 (dk_at dksL_law_23 14 rfl rfl)
theorem dL_law_696 : decode cL_law 696 = .ok (.if_icmp .eq 5, 3) := dk_159 0 5 (dk_at dksL_law_23 16 rfl rfl)
theorem dL_law_699 : decode cL_law 699 = .ok (.iconst 0, 1) := dk_3 (dk_at dksL_law_23 19 rfl rfl)
theorem dL_law_700 : decode cL_law 700 = .ok (.ireturn, 1) := dk_172 (dk_at dksL_law_23 20 rfl rfl)
theorem dL_law_701 : decode cL_law 701 = .ok (.iload 6, 2) := dk_21 6 (dk_at dksL_law_23 21 rfl rfl)
theorem dL_law_703 : decode cL_law 703 = .ok (.ifCond .ne 15, 3) := dk_154 0 15 (dk_at dksL_law_24 0 rfl rfl)
theorem dL_law_706 : decode cL_law 706 = .ok (.aload_n 3, 1) := dk_45 (dk_at dksL_law_24 3 rfl rfl)
theorem dL_law_707 : decode cL_law 707 = .ok (.iconst 0, 1) := dk_3 (dk_at dksL_law_24 4 rfl rfl)
theorem dL_law_708 : decode cL_law 708 = .ok (.laload, 1) := dk_47 (dk_at dksL_law_24 5 rfl rfl)
theorem dL_law_709 : decode cL_law 709 = .ok (.iload 7, 2) := dk_21 7 (dk_at dksL_law_24 6 rfl rfl)
theorem dL_law_711 : decode cL_law 711 = .ok (.i2l, 1) := dk_133 (dk_at dksL_law_24 8 rfl rfl)
theorem dL_law_712 : decode cL_law 712 = .ok (.lcmp, 1) := dk_148 (dk_at dksL_law_24 9 rfl rfl)
theorem dL_law_713 : decode cL_law 713 = .ok (.ifCond .eq 5, 3) := dk_153 0 5 (dk_at dksL_law_24 10 rfl rfl)
theorem dL_law_716 : decode cL_law 716 = .ok (.iconst 0, 1) := dk_3 (dk_at dksL_law_24 13 rfl rfl)
theorem dL_law_717 : decode cL_law 717 = .ok (.ireturn, 1) := dk_172 (dk_at dksL_law_24 14 rfl rfl)
theorem dL_law_718 : decode cL_law 718 = .ok (.goto 1547, 3) := dk_167 6 11 (dk_at dksL_law_24 15 rfl rfl)
theorem dL_law_721 : decode cL_law 721 = .ok (.aload_n 1, 1) := dk_43 (dk_at dksL_law_24 18 rfl rfl)
theorem dL_law_722 : decode cL_law 722 = .ok (.aload_n 0, 1) := dk_42 (dk_at dksL_law_24 19 rfl rfl)
theorem dL_law_723 : decode cL_law 723 = .ok (.iload 5, 2) := dk_21 5 (dk_at dksL_law_24 20 rfl rfl)
theorem dL_law_725 : decode cL_law 725 = .ok (.iconst 1, 1) := dk_4 (dk_at dksL_law_24 22 rfl rfl)
theorem dL_law_726 : decode cL_law 726 = .ok (.iadd, 1) := dk_96 (dk_at dksL_law_24 23 rfl rfl)
theorem dL_law_727 : decode cL_law 727 = .ok (.iaload, 1) := dk_46 (dk_at dksL_law_25 0 rfl rfl)
theorem dL_law_728 : decode cL_law 728 = .ok (.aload_n 0, 1) := dk_42 (dk_at dksL_law_25 1 rfl rfl)
theorem dL_law_729 : decode cL_law 729 = .ok (.iload 5, 2) := dk_21 5 (dk_at dksL_law_25 2 rfl rfl)
theorem dL_law_731 : decode cL_law 731 = .ok (.iconst 2, 1) := dk_5 (dk_at dksL_law_25 4 rfl rfl)
theorem dL_law_732 : decode cL_law 732 = .ok (.iadd, 1) := dk_96 (dk_at dksL_law_25 5 rfl rfl)
theorem dL_law_733 : decode cL_law 733 = .ok (.iaload, 1) := dk_46 (dk_at dksL_law_25 6 rfl rfl)
theorem dL_law_734 : decode cL_law 734 = .ok (.aload_n 3, 1) := dk_45 (dk_at dksL_law_25 7 rfl rfl)
theorem dL_law_735 : decode cL_law 735 = .ok (.invokestatic 168, 3) := dk_184 0 168 (dk_at dksL_law_25 8 rfl rfl)
theorem dL_law_738 : decode cL_law 738 = .ok (.istore 6, 2) := dk_54 6 (dk_at dksL_law_25 11 rfl rfl)
theorem dL_law_740 : decode cL_law 740 = .ok (.aload_n 2, 1) := dk_44 (dk_at dksL_law_25 13 rfl rfl)
theorem dL_law_741 : decode cL_law 741 = .ok (.aload_n 0, 1) := dk_42 (dk_at dksL_law_25 14 rfl rfl)
theorem dL_law_742 : decode cL_law 742 = .ok (.iload 5, 2) := dk_21 5 (dk_at dksL_law_25 15 rfl rfl)
theorem dL_law_744 : decode cL_law 744 = .ok (.iconst 1, 1) := dk_4 (dk_at dksL_law_25 17 rfl rfl)
theorem dL_law_745 : decode cL_law 745 = .ok (.iadd, 1) := dk_96 (dk_at dksL_law_25 18 rfl rfl)
theorem dL_law_746 : decode cL_law 746 = .ok (.iaload, 1) := dk_46 (dk_at dksL_law_25 19 rfl rfl)
theorem dL_law_747 : decode cL_law 747 = .ok (.aload_n 0, 1) := dk_42 (dk_at dksL_law_25 20 rfl rfl)
theorem dL_law_748 : decode cL_law 748 = .ok (.iload 5, 2) := dk_21 5 (dk_at dksL_law_25 21 rfl rfl)
theorem dL_law_750 : decode cL_law 750 = .ok (.iconst 2, 1) := dk_5 (dk_at dksL_law_25 23 rfl rfl)
theorem dL_law_751 : decode cL_law 751 = .ok (.iadd, 1) := dk_96 (dk_at dksL_law_26 0 rfl rfl)
theorem dL_law_752 : decode cL_law 752 = .ok (.iaload, 1) := dk_46 (dk_at dksL_law_26 1 rfl rfl)
theorem dL_law_753 : decode cL_law 753 = .ok (.invokevirtual 170, 3) := dk_182 0 170 (dk_at dksL_law_26 2 rfl rfl)
theorem dL_law_756 : decode cL_law 756 = .ok (.istore 7, 2) := dk_54 7 (dk_at dksL_law_26 5 rfl rfl)
theorem dL_law_758 : decode cL_law 758 = .ok (.aload_n 2, 1) := dk_44 (dk_at dksL_law_26 7 rfl rfl)
theorem dL_law_759 : decode cL_law 759 = .ok (.invokevirtual 138, 3) := dk_182 0 138 (dk_at dksL_law_26 8 rfl rfl)
theorem dL_law_762 : decode cL_law 762 = .ok (.iload 6, 2) := dk_21 6 (dk_at dksL_law_26 11 rfl rfl)
theorem dL_law_764 : decode cL_law 764 = .ok (.if_icmp .eq 5, 3) := dk_159 0 5 (dk_at dksL_law_26 13 rfl rfl)
theorem dL_law_767 : decode cL_law 767 = .ok (.iconst 0, 1) := dk_3 (dk_at dksL_law_26 16 rfl rfl)
theorem dL_law_768 : decode cL_law 768 = .ok (.ireturn, 1) := dk_172 (dk_at dksL_law_26 17 rfl rfl)
theorem dL_law_769 : decode cL_law 769 = .ok (.iload 6, 2) := dk_21 6 (dk_at dksL_law_26 18 rfl rfl)
theorem dL_law_771 : decode cL_law 771 = .ok (.ifCond .ne 15, 3) := dk_154 0 15 (dk_at dksL_law_26 20 rfl rfl)
theorem dL_law_774 : decode cL_law 774 = .ok (.aload_n 3, 1) := dk_45 (dk_at dksL_law_26 23 rfl rfl)
theorem dL_law_775 : decode cL_law 775 = .ok (.iconst 0, 1) := dk_3 (dk_at dksL_law_27 0 rfl rfl)
theorem dL_law_776 : decode cL_law 776 = .ok (.laload, 1) := dk_47 (dk_at dksL_law_27 1 rfl rfl)
theorem dL_law_777 : decode cL_law 777 = .ok (.iload 7, 2) := dk_21 7 (dk_at dksL_law_27 2 rfl rfl)
theorem dL_law_779 : decode cL_law 779 = .ok (.i2l, 1) := dk_133 (dk_at dksL_law_27 4 rfl rfl)
theorem dL_law_780 : decode cL_law 780 = .ok (.lcmp, 1) := dk_148 (dk_at dksL_law_27 5 rfl rfl)
theorem dL_law_781 : decode cL_law 781 = .ok (.ifCond .eq 5, 3) := dk_153 0 5 (dk_at dksL_law_27 6 rfl rfl)
theorem dL_law_784 : decode cL_law 784 = .ok (.iconst 0, 1) := dk_3 (dk_at dksL_law_27 9 rfl rfl)
theorem dL_law_785 : decode cL_law 785 = .ok (.ireturn, 1) := dk_172 (dk_at dksL_law_27 10 rfl rfl)
theorem dL_law_786 : decode cL_law 786 = .ok (.goto 1479, 3) := dk_167 5 199 (dk_at dksL_law_27 11 rfl rfl)
theorem dL_law_789 : decode cL_law 789 = .ok (.aload_n 1, 1) := dk_43 (dk_at dksL_law_27 14 rfl rfl)
theorem dL_law_790 : decode cL_law 790 = .ok (.aload_n 0, 1) := dk_42 (dk_at dksL_law_27 15 rfl rfl)
theorem dL_law_791 : decode cL_law 791 = .ok (.iload 5, 2) := dk_21 5 (dk_at dksL_law_27 16 rfl rfl)
theorem dL_law_793 : decode cL_law 793 = .ok (.iconst 1, 1) := dk_4 (dk_at dksL_law_27 18 rfl rfl)
theorem dL_law_794 : decode cL_law 794 = .ok (.iadd, 1) := dk_96 (dk_at dksL_law_27 19 rfl rfl)
theorem dL_law_795 : decode cL_law 795 = .ok (.iaload, 1) := dk_46 (dk_at dksL_law_27 20 rfl rfl)
theorem dL_law_796 : decode cL_law 796 = .ok (.aload_n 0, 1) := dk_42 (dk_at dksL_law_27 21 rfl rfl)
theorem dL_law_797 : decode cL_law 797 = .ok (.iload 5, 2) := dk_21 5 (dk_at dksL_law_27 22 rfl rfl)
theorem dL_law_799 : decode cL_law 799 = .ok (.iconst 2, 1) := dk_5 (dk_at dksL_law_28 0 rfl rfl)
theorem dL_law_800 : decode cL_law 800 = .ok (.iadd, 1) := dk_96 (dk_at dksL_law_28 1 rfl rfl)
theorem dL_law_801 : decode cL_law 801 = .ok (.iaload, 1) := dk_46 (dk_at dksL_law_28 2 rfl rfl)
theorem dL_law_802 : decode cL_law 802 = .ok (.aload_n 3, 1) := dk_45 (dk_at dksL_law_28 3 rfl rfl)
theorem dL_law_803 : decode cL_law 803 = .ok (.invokestatic 171, 3) := dk_184 0 171 (dk_at dksL_law_28 4 rfl rfl)
theorem dL_law_806 : decode cL_law 806 = .ok (.istore 6, 2) := dk_54 6 (dk_at dksL_law_28 7 rfl rfl)
theorem dL_law_808 : decode cL_law 808 = .ok (.aload_n 2, 1) := dk_44 (dk_at dksL_law_28 9 rfl rfl)
theorem dL_law_809 : decode cL_law 809 = .ok (.aload_n 0, 1) := dk_42 (dk_at dksL_law_28 10 rfl rfl)
theorem dL_law_810 : decode cL_law 810 = .ok (.iload 5, 2) := dk_21 5 (dk_at dksL_law_28 11 rfl rfl)
theorem dL_law_812 : decode cL_law 812 = .ok (.iconst 1, 1) := dk_4 (dk_at dksL_law_28 13 rfl rfl)
theorem dL_law_813 : decode cL_law 813 = .ok (.iadd, 1) := dk_96 (dk_at dksL_law_28 14 rfl rfl)
theorem dL_law_814 : decode cL_law 814 = .ok (.iaload, 1) := dk_46 (dk_at dksL_law_28 15 rfl rfl)
theorem dL_law_815 : decode cL_law 815 = .ok (.aload_n 0, 1) := dk_42 (dk_at dksL_law_28 16 rfl rfl)
theorem dL_law_816 : decode cL_law 816 = .ok (.iload 5, 2) := dk_21 5 (dk_at dksL_law_28 17 rfl rfl)
theorem dL_law_818 : decode cL_law 818 = .ok (.iconst 2, 1) := dk_5 (dk_at dksL_law_28 19 rfl rfl)
theorem dL_law_819 : decode cL_law 819 = .ok (.iadd, 1) := dk_96 (dk_at dksL_law_28 20 rfl rfl)
theorem dL_law_820 : decode cL_law 820 = .ok (.iaload, 1) := dk_46 (dk_at dksL_law_28 21 rfl rfl)
theorem dL_law_821 : decode cL_law 821 = .ok (.invokevirtual 173, 3) := dk_182 0 173 (dk_at dksL_law_29 0 rfl rfl)
theorem dL_law_824 : decode cL_law 824 = .ok (.istore 7, 2) := dk_54 7 (dk_at dksL_law_29 3 rfl rfl)
theorem dL_law_826 : decode cL_law 826 = .ok (.aload_n 2, 1) := dk_44 (dk_at dksL_law_29 5 rfl rfl)
theorem dL_law_827 : decode cL_law 827 = .ok (.invokevirtual 138, 3) := dk_182 0 138 (dk_at dksL_law_29 6 rfl rfl)
theorem dL_law_830 : decode cL_law 830 = .ok (.iload 6, 2) := dk_21 6 (dk_at dksL_law_29 9 rfl rfl)
theorem dL_law_832 : decode cL_law 832 = .ok (.if_icmp .eq 5, 3) := dk_159 0 5 (dk_at dksL_law_29 11 rfl rfl)
theorem dL_law_835 : decode cL_law 835 = .ok (.iconst 0, 1) := dk_3 (dk_at dksL_law_29 14 rfl rfl)
theorem dL_law_836 : decode cL_law 836 = .ok (.ireturn, 1) := dk_172 (dk_at dksL_law_29 15 rfl rfl)
theorem dL_law_837 : decode cL_law 837 = .ok (.iload 6, 2) := dk_21 6 (dk_at dksL_law_29 16 rfl rfl)
theorem dL_law_839 : decode cL_law 839 = .ok (.ifCond .ne 15, 3) := dk_154 0 15 (dk_at dksL_law_29 18 rfl rfl)
theorem dL_law_842 : decode cL_law 842 = .ok (.aload_n 3, 1) := dk_45 (dk_at dksL_law_29 21 rfl rfl)
theorem dL_law_843 : decode cL_law 843 = .ok (.iconst 0, 1) := dk_3 (dk_at dksL_law_29 22 rfl rfl)
theorem dL_law_844 : decode cL_law 844 = .ok (.laload, 1) := dk_47 (dk_at dksL_law_29 23 rfl rfl)
theorem dL_law_845 : decode cL_law 845 = .ok (.iload 7, 2) := dk_21 7 (dk_at dksL_law_30 0 rfl rfl)
theorem dL_law_847 : decode cL_law 847 = .ok (.i2l, 1) := dk_133 (dk_at dksL_law_30 2 rfl rfl)
theorem dL_law_848 : decode cL_law 848 = .ok (.lcmp, 1) := dk_148 (dk_at dksL_law_30 3 rfl rfl)
theorem dL_law_849 : decode cL_law 849 = .ok (.ifCond .eq 5, 3) := dk_153 0 5 (dk_at dksL_law_30 4 rfl rfl)
theorem dL_law_852 : decode cL_law 852 = .ok (.iconst 0, 1) := dk_3 (dk_at dksL_law_30 7 rfl rfl)
theorem dL_law_853 : decode cL_law 853 = .ok (.ireturn, 1) := dk_172 (dk_at dksL_law_30 8 rfl rfl)
theorem dL_law_854 : decode cL_law 854 = .ok (.goto 1411, 3) := dk_167 5 131 (dk_at dksL_law_30 9 rfl rfl)
theorem dL_law_857 : decode cL_law 857 = .ok (.aload_n 1, 1) := dk_43 (dk_at dksL_law_30 12 rfl rfl)
theorem dL_law_858 : decode cL_law 858 = .ok (.aload_n 3, 1) := dk_45 (dk_at dksL_law_30 13 rfl rfl)
theorem dL_law_859 : decode cL_law 859 = .ok (.invokestatic 174, 3) := dk_184 0 174 (dk_at dksL_law_30 14 rfl rfl)
theorem dL_law_862 : decode cL_law 862 = .ok (.istore 6, 2) := dk_54 6 (dk_at dksL_law_30 17 rfl rfl)
theorem dL_law_864 : decode cL_law 864 = .ok (.aload_n 2, 1) := dk_44 (dk_at dksL_law_30 19 rfl rfl)
theorem dL_law_865 : decode cL_law 865 = .ok (.invokevirtual 177, 3) := dk_182 0 177 (dk_at dksL_law_30 20 rfl rfl)
theorem dL_law_868 : decode cL_law 868 = .ok (.istore 7, 2) := dk_54 7 (dk_at dksL_law_31 0 rfl rfl)
theorem dL_law_870 : decode cL_law 870 = .ok (.aload_n 2, 1) := dk_44 (dk_at dksL_law_31 2 rfl rfl)
theorem dL_law_871 : decode cL_law 871 = .ok (.invokevirtual 138, 3) := dk_182 0 138 (dk_at dksL_law_31 3 rfl rfl)
theorem dL_law_874 : decode cL_law 874 = .ok (.iload 6, 2) := dk_21 6 (dk_at dksL_law_31 6 rfl rfl)
theorem dL_law_876 : decode cL_law 876 = .ok (.if_icmp .eq 5, 3) := dk_159 0 5 (dk_at dksL_law_31 8 rfl rfl)
theorem dL_law_879 : decode cL_law 879 = .ok (.iconst 0, 1) := dk_3 (dk_at dksL_law_31 11 rfl rfl)
theorem dL_law_880 : decode cL_law 880 = .ok (.ireturn, 1) := dk_172 (dk_at dksL_law_31 12 rfl rfl)
theorem dL_law_881 : decode cL_law 881 = .ok (.iload 6, 2) := dk_21 6 (dk_at dksL_law_31 13 rfl rfl)
theorem dL_law_883 : decode cL_law 883 = .ok (.ifCond .ne 15, 3) := dk_154 0 15 (dk_at dksL_law_31 15 rfl rfl)
theorem dL_law_886 : decode cL_law 886 = .ok (.aload_n 3, 1) := dk_45 (dk_at dksL_law_31 18 rfl rfl)
theorem dL_law_887 : decode cL_law 887 = .ok (.iconst 0, 1) := dk_3 (dk_at dksL_law_31 19 rfl rfl)
theorem dL_law_888 : decode cL_law 888 = .ok (.laload, 1) := dk_47 (dk_at dksL_law_31 20 rfl rfl)
theorem dL_law_889 : decode cL_law 889 = .ok (.iload 7, 2) := dk_21 7 (dk_at dksL_law_31 21 rfl rfl)
theorem dL_law_891 : decode cL_law 891 = .ok (.i2l, 1) := dk_133 (dk_at dksL_law_31 23 rfl rfl)
theorem dL_law_892 : decode cL_law 892 = .ok (.lcmp, 1) := dk_148 (dk_at dksL_law_32 0 rfl rfl)
theorem dL_law_893 : decode cL_law 893 = .ok (.ifCond .eq 5, 3) := dk_153 0 5 (dk_at dksL_law_32 1 rfl rfl)
theorem dL_law_896 : decode cL_law 896 = .ok (.iconst 0, 1) := dk_3 (dk_at dksL_law_32 4 rfl rfl)
theorem dL_law_897 : decode cL_law 897 = .ok (.ireturn, 1) := dk_172 (dk_at dksL_law_32 5 rfl rfl)
theorem dL_law_898 : decode cL_law 898 = .ok (.goto 1367, 3) := dk_167 5 87 (dk_at dksL_law_32 6 rfl rfl)
theorem dL_law_901 : decode cL_law 901 = .ok (.aload_n 1, 1) := dk_43 (dk_at dksL_law_32 9 rfl rfl)
theorem dL_law_902 : decode cL_law 902 = .ok (.aload_n 3, 1) := dk_45 (dk_at dksL_law_32 10 rfl rfl)
theorem dL_law_903 : decode cL_law 903 = .ok (.invokestatic 178, 3) := dk_184 0 178 (dk_at dksL_law_32 11 rfl rfl)
theorem dL_law_906 : decode cL_law 906 = .ok (.istore 6, 2) := dk_54 6 (dk_at dksL_law_32 14 rfl rfl)
theorem dL_law_908 : decode cL_law 908 = .ok (.aload_n 2, 1) := dk_44 (dk_at dksL_law_32 16 rfl rfl)
theorem dL_law_909 : decode cL_law 909 = .ok (.invokevirtual 180, 3) := dk_182 0 180 (dk_at dksL_law_32 17 rfl rfl)
theorem dL_law_912 : decode cL_law 912 = .ok (.istore 7, 2) := dk_54 7 (dk_at dksL_law_32 20 rfl rfl)
theorem dL_law_914 : decode cL_law 914 = .ok (.aload_n 2, 1) := dk_44 (dk_at dksL_law_32 22 rfl rfl)
theorem dL_law_915 : decode cL_law 915 = .ok (.invokevirtual 138, 3) := dk_182 0 138 (dk_at dksL_law_33 0 rfl rfl)
theorem dL_law_918 : decode cL_law 918 = .ok (.iload 6, 2) := dk_21 6 (dk_at dksL_law_33 3 rfl rfl)
theorem dL_law_920 : decode cL_law 920 = .ok (.if_icmp .eq 5, 3) := dk_159 0 5 (dk_at dksL_law_33 5 rfl rfl)
theorem dL_law_923 : decode cL_law 923 = .ok (.iconst 0, 1) := dk_3 (dk_at dksL_law_33 8 rfl rfl)
theorem dL_law_924 : decode cL_law 924 = .ok (.ireturn, 1) := dk_172 (dk_at dksL_law_33 9 rfl rfl)
theorem dL_law_925 : decode cL_law 925 = .ok (.iload 6, 2) := dk_21 6 (dk_at dksL_law_33 10 rfl rfl)
theorem dL_law_927 : decode cL_law 927 = .ok (.ifCond .ne 15, 3) := dk_154 0 15 (dk_at dksL_law_33 12 rfl rfl)
theorem dL_law_930 : decode cL_law 930 = .ok (.aload_n 3, 1) := dk_45 (dk_at dksL_law_33 15 rfl rfl)
theorem dL_law_931 : decode cL_law 931 = .ok (.iconst 0, 1) := dk_3 (dk_at dksL_law_33 16 rfl rfl)
theorem dL_law_932 : decode cL_law 932 = .ok (.laload, 1) := dk_47 (dk_at dksL_law_33 17 rfl rfl)
theorem dL_law_933 : decode cL_law 933 = .ok (.iload 7, 2) := dk_21 7 (dk_at dksL_law_33 18 rfl rfl)
theorem dL_law_935 : decode cL_law 935 = .ok (.i2l, 1) := dk_133 (dk_at dksL_law_33 20 rfl rfl)
theorem dL_law_936 : decode cL_law 936 = .ok (.lcmp, 1) := dk_148 (dk_at dksL_law_33 21 rfl rfl)
theorem dL_law_937 : decode cL_law 937 = .ok (.ifCond .eq 5, 3) := dk_153 0 5 (dk_at dksL_law_34 0 rfl rfl)
theorem dL_law_940 : decode cL_law 940 = .ok (.iconst 0, 1) := dk_3 (dk_at dksL_law_34 3 rfl rfl)
theorem dL_law_941 : decode cL_law 941 = .ok (.ireturn, 1) := dk_172 (dk_at dksL_law_34 4 rfl rfl)
theorem dL_law_942 : decode cL_law 942 = .ok (.goto 1323, 3) := dk_167 5 43 (dk_at dksL_law_34 5 rfl rfl)
theorem dL_law_945 : decode cL_law 945 = .ok (.aload_n 1, 1) := dk_43 (dk_at dksL_law_34 8 rfl rfl)
theorem dL_law_946 : decode cL_law 946 = .ok (.aload_n 0, 1) := dk_42 (dk_at dksL_law_34 9 rfl rfl)
theorem dL_law_947 : decode cL_law 947 = .ok (.iload 5, 2) := dk_21 5 (dk_at dksL_law_34 10 rfl rfl)
theorem dL_law_949 : decode cL_law 949 = .ok (.iconst 1, 1) := dk_4 (dk_at dksL_law_34 12 rfl rfl)
theorem dL_law_950 : decode cL_law 950 = .ok (.iadd, 1) := dk_96 (dk_at dksL_law_34 13 rfl rfl)
theorem dL_law_951 : decode cL_law 951 = .ok (.iaload, 1) := dk_46 (dk_at dksL_law_34 14 rfl rfl)
theorem dL_law_952 : decode cL_law 952 = .ok (.aload_n 0, 1) := dk_42 (dk_at dksL_law_34 15 rfl rfl)
theorem dL_law_953 : decode cL_law 953 = .ok (.iload 5, 2) := dk_21 5 (dk_at dksL_law_34 16 rfl rfl)
theorem dL_law_955 : decode cL_law 955 = .ok (.iconst 2, 1) := dk_5 (dk_at dksL_law_34 18 rfl rfl)
theorem dL_law_956 : decode cL_law 956 = .ok (.iadd, 1) := dk_96 (dk_at dksL_law_34 19 rfl rfl)
theorem dL_law_957 : decode cL_law 957 = .ok (.iaload, 1) := dk_46 (dk_at dksL_law_34 20 rfl rfl)
theorem dL_law_958 : decode cL_law 958 = .ok (.aload_n 3, 1) := dk_45 (dk_at dksL_law_34 21 rfl rfl)
theorem dL_law_959 : decode cL_law 959 = .ok (.invokestatic 181, 3) := dk_184 0 181 (dk_at dksL_law_35 0 rfl rfl)
theorem dL_law_962 : decode cL_law 962 = .ok (.istore 6, 2) := dk_54 6 (dk_at dksL_law_35 3 rfl rfl)
theorem dL_law_964 : decode cL_law 964 = .ok (.aload_n 2, 1) := dk_44 (dk_at dksL_law_35 5 rfl rfl)
theorem dL_law_965 : decode cL_law 965 = .ok (.aload_n 0, 1) := dk_42 (dk_at dksL_law_35 6 rfl rfl)
theorem dL_law_966 : decode cL_law 966 = .ok (.iload 5, 2) := dk_21 5 (dk_at dksL_law_35 7 rfl rfl)
theorem dL_law_968 : decode cL_law 968 = .ok (.iconst 1, 1) := dk_4 (dk_at dksL_law_35 9 rfl rfl)
theorem dL_law_969 : decode cL_law 969 = .ok (.iadd, 1) := dk_96 (dk_at dksL_law_35 10 rfl rfl)
theorem dL_law_970 : decode cL_law 970 = .ok (.iaload, 1) := dk_46 (dk_at dksL_law_35 11 rfl rfl)
theorem dL_law_971 : decode cL_law 971 = .ok (.aload_n 0, 1) := dk_42 (dk_at dksL_law_35 12 rfl rfl)
theorem dL_law_972 : decode cL_law 972 = .ok (.iload 5, 2) := dk_21 5 (dk_at dksL_law_35 13 rfl rfl)
theorem dL_law_974 : decode cL_law 974 = .ok (.iconst 2, 1) := dk_5 (dk_at dksL_law_35 15 rfl rfl)
theorem dL_law_975 : decode cL_law 975 = .ok (.iadd, 1) := dk_96 (dk_at dksL_law_35 16 rfl rfl)
theorem dL_law_976 : decode cL_law 976 = .ok (.iaload, 1) := dk_46 (dk_at dksL_law_35 17 rfl rfl)
theorem dL_law_977 : decode cL_law 977 = .ok (.invokevirtual 183, 3) := dk_182 0 183 (dk_at dksL_law_35 18 rfl rfl)
theorem dL_law_980 : decode cL_law 980 = .ok (.istore 7, 2) := dk_54 7 (dk_at dksL_law_35 21 rfl rfl)
theorem dL_law_982 : decode cL_law 982 = .ok (.aload_n 2, 1) := dk_44 (dk_at dksL_law_35 23 rfl rfl)
theorem dL_law_983 : decode cL_law 983 = .ok (.invokevirtual 138, 3) := dk_182 0 138 (dk_at dksL_law_36 0 rfl rfl)
theorem dL_law_986 : decode cL_law 986 = .ok (.iload 6, 2) := dk_21 6 (dk_at dksL_law_36 3 rfl rfl)
theorem dL_law_988 : decode cL_law 988 = .ok (.if_icmp .eq 5, 3) := dk_159 0 5 (dk_at dksL_law_36 5 rfl rfl)
theorem dL_law_991 : decode cL_law 991 = .ok (.iconst 0, 1) := dk_3 (dk_at dksL_law_36 8 rfl rfl)
theorem dL_law_992 : decode cL_law 992 = .ok (.ireturn, 1) := dk_172 (dk_at dksL_law_36 9 rfl rfl)
theorem dL_law_993 : decode cL_law 993 = .ok (.iload 6, 2) := dk_21 6 (dk_at dksL_law_36 10 rfl rfl)
theorem dL_law_995 : decode cL_law 995 = .ok (.ifCond .ne 15, 3) := dk_154 0 15 (dk_at dksL_law_36 12 rfl rfl)
theorem dL_law_998 : decode cL_law 998 = .ok (.aload_n 3, 1) := dk_45 (dk_at dksL_law_36 15 rfl rfl)
theorem dL_law_999 : decode cL_law 999 = .ok (.iconst 0, 1) := dk_3 (dk_at dksL_law_36 16 rfl rfl)
theorem dL_law_1000 : decode cL_law 1000 = .ok (.laload, 1) := dk_47 (dk_at dksL_law_36 17 rfl rfl)
theorem dL_law_1001 : decode cL_law 1001 = .ok (.iload 7, 2) := dk_21 7 (dk_at dksL_law_36 18 rfl rfl)
theorem dL_law_1003 : decode cL_law 1003 = .ok (.i2l, 1) := dk_133 (dk_at dksL_law_36 20 rfl rfl)
theorem dL_law_1004 : decode cL_law 1004 = .ok (.lcmp, 1) := dk_148 (dk_at dksL_law_36 21 rfl rfl)
theorem dL_law_1005 : decode cL_law 1005 = .ok (.ifCond .eq 5, 3) := dk_153 0 5 (dk_at dksL_law_37 0 rfl rfl)
theorem dL_law_1008 : decode cL_law 1008 = .ok (.iconst 0, 1) := dk_3 (dk_at dksL_law_37 3 rfl rfl)
theorem dL_law_1009 : decode cL_law 1009 = .ok (.ireturn, 1) := dk_172 (dk_at dksL_law_37 4 rfl rfl)
theorem dL_law_1010 : decode cL_law 1010 = .ok (.goto 1255, 3) := dk_167 4 231 (dk_at dksL_law_37 5 rfl rfl)
theorem dL_law_1013 : decode cL_law 1013 = .ok (.aload_n 1, 1) := dk_43 (dk_at dksL_law_37 8 rfl rfl)
theorem dL_law_1014 : decode cL_law 1014 = .ok (.aload_n 0, 1) := dk_42 (dk_at dksL_law_37 9 rfl rfl)
theorem dL_law_1015 : decode cL_law 1015 = .ok (.iload 5, 2) := dk_21 5 (dk_at dksL_law_37 10 rfl rfl)
theorem dL_law_1017 : decode cL_law 1017 = .ok (.iconst 1, 1) := dk_4 (dk_at dksL_law_37 12 rfl rfl)
theorem dL_law_1018 : decode cL_law 1018 = .ok (.iadd, 1) := dk_96 (dk_at dksL_law_37 13 rfl rfl)
theorem dL_law_1019 : decode cL_law 1019 = .ok (.iaload, 1) := dk_46 (dk_at dksL_law_37 14 rfl rfl)
theorem dL_law_1020 : decode cL_law 1020 = .ok (.aload_n 0, 1) := dk_42 (dk_at dksL_law_37 15 rfl rfl)
theorem dL_law_1021 : decode cL_law 1021 = .ok (.iload 5, 2) := dk_21 5 (dk_at dksL_law_37 16 rfl rfl)
theorem dL_law_1023 : decode cL_law 1023 = .ok (.iconst 2, 1) := dk_5 (dk_at dksL_law_37 18 rfl rfl)
theorem dL_law_1024 : decode cL_law 1024 = .ok (.iadd, 1) := dk_96 (dk_at dksL_law_37 19 rfl rfl)
theorem dL_law_1025 : decode cL_law 1025 = .ok (.iaload, 1) := dk_46 (dk_at dksL_law_37 20 rfl rfl)
theorem dL_law_1026 : decode cL_law 1026 = .ok (.aload_n 3, 1) := dk_45 (dk_at dksL_law_37 21 rfl rfl)
theorem dL_law_1027 : decode cL_law 1027 = .ok (.invokestatic 184, 3) := dk_184 0 184 (dk_at dksL_law_38 0 rfl rfl)
theorem dL_law_1030 : decode cL_law 1030 = .ok (.istore 6, 2) := dk_54 6 (dk_at dksL_law_38 3 rfl rfl)
theorem dL_law_1032 : decode cL_law 1032 = .ok (.aload_n 2, 1) := dk_44 (dk_at dksL_law_38 5 rfl rfl)
theorem dL_law_1033 : decode cL_law 1033 = .ok (.aload_n 0, 1) := dk_42 (dk_at dksL_law_38 6 rfl rfl)
theorem dL_law_1034 : decode cL_law 1034 = .ok (.iload 5, 2) := dk_21 5 (dk_at dksL_law_38 7 rfl rfl)
theorem dL_law_1036 : decode cL_law 1036 = .ok (.iconst 1, 1) := dk_4 (dk_at dksL_law_38 9 rfl rfl)
theorem dL_law_1037 : decode cL_law 1037 = .ok (.iadd, 1) := dk_96 (dk_at dksL_law_38 10 rfl rfl)
theorem dL_law_1038 : decode cL_law 1038 = .ok (.iaload, 1) := dk_46 (dk_at dksL_law_38 11 rfl rfl)
theorem dL_law_1039 : decode cL_law 1039 = .ok (.aload_n 0, 1) := dk_42 (dk_at dksL_law_38 12 rfl rfl)
theorem dL_law_1040 : decode cL_law 1040 = .ok (.iload 5, 2) := dk_21 5 (dk_at dksL_law_38 13 rfl rfl)
theorem dL_law_1042 : decode cL_law 1042 = .ok (.iconst 2, 1) := dk_5 (dk_at dksL_law_38 15 rfl rfl)
theorem dL_law_1043 : decode cL_law 1043 = .ok (.iadd, 1) := dk_96 (dk_at dksL_law_38 16 rfl rfl)
theorem dL_law_1044 : decode cL_law 1044 = .ok (.iaload, 1) := dk_46 (dk_at dksL_law_38 17 rfl rfl)
theorem dL_law_1045 : decode cL_law 1045 = .ok (.invokevirtual 186, 3) := dk_182 0 186 (dk_at dksL_law_38 18 rfl rfl)
theorem dL_law_1048 : decode cL_law 1048 = .ok (.istore 7, 2) := dk_54 7 (dk_at dksL_law_38 21 rfl rfl)
theorem dL_law_1050 : decode cL_law 1050 = .ok (.aload_n 2, 1) := dk_44 (dk_at dksL_law_38 23 rfl rfl)
theorem dL_law_1051 : decode cL_law 1051 = .ok (.invokevirtual 138, 3) := dk_182 0 138 (dk_at dksL_law_39 0 rfl rfl)
theorem dL_law_1054 : decode cL_law 1054 = .ok (.iload 6, 2) := dk_21 6 (dk_at dksL_law_39 3 rfl rfl)
theorem dL_law_1056 : decode cL_law 1056 = .ok (.if_icmp .eq 5, 3) := dk_159 0 5 (dk_at dksL_law_39 5 rfl rfl)
theorem dL_law_1059 : decode cL_law 1059 = .ok (.iconst 0, 1) := dk_3 (dk_at dksL_law_39 8 rfl rfl)
theorem dL_law_1060 : decode cL_law 1060 = .ok (.ireturn, 1) := dk_172 (dk_at dksL_law_39 9 rfl rfl)
theorem dL_law_1061 : decode cL_law 1061 = .ok (.iload 6, 2) := dk_21 6 (dk_at dksL_law_39 10 rfl rfl)
theorem dL_law_1063 : decode cL_law 1063 = .ok (.ifCond .ne 15, 3) := dk_154 0 15 (dk_at dksL_law_39 12 rfl rfl)
theorem dL_law_1066 : decode cL_law 1066 = .ok (.aload_n 3, 1) := dk_45 (dk_at dksL_law_39 15 rfl rfl)
theorem dL_law_1067 : decode cL_law 1067 = .ok (.iconst 0, 1) := dk_3 (dk_at dksL_law_39 16 rfl rfl)
theorem dL_law_1068 : decode cL_law 1068 = .ok (.laload, 1) := dk_47 (dk_at dksL_law_39 17 rfl rfl)
theorem dL_law_1069 : decode cL_law 1069 = .ok (.iload 7, 2) := dk_21 7 (dk_at dksL_law_39 18 rfl rfl)
theorem dL_law_1071 : decode cL_law 1071 = .ok (.i2l, 1) := dk_133 (dk_at dksL_law_39 20 rfl rfl)
theorem dL_law_1072 : decode cL_law 1072 = .ok (.lcmp, 1) := dk_148 (dk_at dksL_law_39 21 rfl rfl)
theorem dL_law_1073 : decode cL_law 1073 = .ok (.ifCond .eq 5, 3) := dk_153 0 5 (dk_at dksL_law_40 0 rfl rfl)
theorem dL_law_1076 : decode cL_law 1076 = .ok (.iconst 0, 1) := dk_3 (dk_at dksL_law_40 3 rfl rfl)
theorem dL_law_1077 : decode cL_law 1077 = .ok (.ireturn, 1) := dk_172 (dk_at dksL_law_40 4 rfl rfl)
theorem dL_law_1078 : decode cL_law 1078 = .ok (.goto 1187, 3) := dk_167 4 163 (dk_at dksL_law_40 5 rfl rfl)
theorem dL_law_1081 : decode cL_law 1081 = .ok (.aload_n 1, 1) := dk_43 (dk_at dksL_law_40 8 rfl rfl)
theorem dL_law_1082 : decode cL_law 1082 = .ok (.aload_n 0, 1) := dk_42 (dk_at dksL_law_40 9 rfl rfl)
theorem dL_law_1083 : decode cL_law 1083 = .ok (.iload 5, 2) := dk_21 5 (dk_at dksL_law_40 10 rfl rfl)
theorem dL_law_1085 : decode cL_law 1085 = .ok (.iconst 1, 1) := dk_4 (dk_at dksL_law_40 12 rfl rfl)
theorem dL_law_1086 : decode cL_law 1086 = .ok (.iadd, 1) := dk_96 (dk_at dksL_law_40 13 rfl rfl)
theorem dL_law_1087 : decode cL_law 1087 = .ok (.iaload, 1) := dk_46 (dk_at dksL_law_40 14 rfl rfl)
theorem dL_law_1088 : decode cL_law 1088 = .ok (.aload_n 0, 1) := dk_42 (dk_at dksL_law_40 15 rfl rfl)
theorem dL_law_1089 : decode cL_law 1089 = .ok (.iload 5, 2) := dk_21 5 (dk_at dksL_law_40 16 rfl rfl)
theorem dL_law_1091 : decode cL_law 1091 = .ok (.iconst 2, 1) := dk_5 (dk_at dksL_law_40 18 rfl rfl)
theorem dL_law_1092 : decode cL_law 1092 = .ok (.iadd, 1) := dk_96 (dk_at dksL_law_40 19 rfl rfl)
theorem dL_law_1093 : decode cL_law 1093 = .ok (.iaload, 1) := dk_46 (dk_at dksL_law_40 20 rfl rfl)
theorem dL_law_1094 : decode cL_law 1094 = .ok (.aload_n 0, 1) := dk_42 (dk_at dksL_law_40 21 rfl rfl)
theorem dL_law_1095 : decode cL_law 1095 = .ok (.iload 5, 2) := dk_21 5 (dk_at dksL_law_40 22 rfl rfl)
theorem dL_law_1097 : decode cL_law 1097 = .ok (.iconst 3, 1) := dk_6 (dk_at dksL_law_41 0 rfl rfl)
theorem dL_law_1098 : decode cL_law 1098 = .ok (.iadd, 1) := dk_96 (dk_at dksL_law_41 1 rfl rfl)
theorem dL_law_1099 : decode cL_law 1099 = .ok (.iaload, 1) := dk_46 (dk_at dksL_law_41 2 rfl rfl)
theorem dL_law_1100 : decode cL_law 1100 = .ok (.aload_n 3, 1) := dk_45 (dk_at dksL_law_41 3 rfl rfl)
theorem dL_law_1101 : decode cL_law 1101 = .ok (.invokestatic 187, 3) := dk_184 0 187 (dk_at dksL_law_41 4 rfl rfl)
theorem dL_law_1104 : decode cL_law 1104 = .ok (.istore 6, 2) := dk_54 6 (dk_at dksL_law_41 7 rfl rfl)
theorem dL_law_1106 : decode cL_law 1106 = .ok (.aload_n 2, 1) := dk_44 (dk_at dksL_law_41 9 rfl rfl)
theorem dL_law_1107 : decode cL_law 1107 = .ok (.aload_n 0, 1) := dk_42 (dk_at dksL_law_41 10 rfl rfl)
theorem dL_law_1108 : decode cL_law 1108 = .ok (.iload 5, 2) := dk_21 5 (dk_at dksL_law_41 11 rfl rfl)
theorem dL_law_1110 : decode cL_law 1110 = .ok (.iconst 1, 1) := dk_4 (dk_at dksL_law_41 13 rfl rfl)
theorem dL_law_1111 : decode cL_law 1111 = .ok (.iadd, 1) := dk_96 (dk_at dksL_law_41 14 rfl rfl)
theorem dL_law_1112 : decode cL_law 1112 = .ok (.iaload, 1) := dk_46 (dk_at dksL_law_41 15 rfl rfl)
theorem dL_law_1113 : decode cL_law 1113 = .ok (.aload_n 0, 1) := dk_42 (dk_at dksL_law_41 16 rfl rfl)
theorem dL_law_1114 : decode cL_law 1114 = .ok (.iload 5, 2) := dk_21 5 (dk_at dksL_law_41 17 rfl rfl)
theorem dL_law_1116 : decode cL_law 1116 = .ok (.iconst 2, 1) := dk_5 (dk_at dksL_law_41 19 rfl rfl)
theorem dL_law_1117 : decode cL_law 1117 = .ok (.iadd, 1) := dk_96 (dk_at dksL_law_41 20 rfl rfl)
theorem dL_law_1118 : decode cL_law 1118 = .ok (.iaload, 1) := dk_46 (dk_at dksL_law_41 21 rfl rfl)
theorem dL_law_1119 : decode cL_law 1119 = .ok (.aload_n 0, 1) := dk_42 (dk_at dksL_law_41 22 rfl rfl)
theorem dL_law_1120 : decode cL_law 1120 = .ok (.iload 5, 2) := dk_21 5 (dk_at dksL_law_42 0 rfl rfl)
theorem dL_law_1122 : decode cL_law 1122 = .ok (.iconst 3, 1) := dk_6 (dk_at dksL_law_42 2 rfl rfl)
theorem dL_law_1123 : decode cL_law 1123 = .ok (.iadd, 1) := dk_96 (dk_at dksL_law_42 3 rfl rfl)
theorem dL_law_1124 : decode cL_law 1124 = .ok (.iaload, 1) := dk_46 (dk_at dksL_law_42 4 rfl rfl)
theorem dL_law_1125 : decode cL_law 1125 = .ok (.invokevirtual 189, 3) := dk_182 0 189 (dk_at dksL_law_42 5 rfl rfl)
theorem dL_law_1128 : decode cL_law 1128 = .ok (.istore 7, 2) := dk_54 7 (dk_at dksL_law_42 8 rfl rfl)
theorem dL_law_1130 : decode cL_law 1130 = .ok (.aload_n 2, 1) := dk_44 (dk_at dksL_law_42 10 rfl rfl)
theorem dL_law_1131 : decode cL_law 1131 = .ok (.invokevirtual 138, 3) := dk_182 0 138 (dk_at dksL_law_42 11 rfl rfl)
theorem dL_law_1134 : decode cL_law 1134 = .ok (.iload 6, 2) := dk_21 6 (dk_at dksL_law_42 14 rfl rfl)
theorem dL_law_1136 : decode cL_law 1136 = .ok (.if_icmp .eq 5, 3) := dk_159 0 5 (dk_at dksL_law_42 16 rfl rfl)
theorem dL_law_1139 : decode cL_law 1139 = .ok (.iconst 0, 1) := dk_3 (dk_at dksL_law_42 19 rfl rfl)
theorem dL_law_1140 : decode cL_law 1140 = .ok (.ireturn, 1) := dk_172 (dk_at dksL_law_42 20 rfl rfl)
theorem dL_law_1141 : decode cL_law 1141 = .ok (.iload 6, 2) := dk_21 6 (dk_at dksL_law_42 21 rfl rfl)
theorem dL_law_1143 : decode cL_law 1143 = .ok (.ifCond .ne 15, 3) := dk_154 0 15 (dk_at dksL_law_43 0 rfl rfl)
theorem dL_law_1146 : decode cL_law 1146 = .ok (.aload_n 3, 1) := dk_45 (dk_at dksL_law_43 3 rfl rfl)
theorem dL_law_1147 : decode cL_law 1147 = .ok (.iconst 0, 1) := dk_3 (dk_at dksL_law_43 4 rfl rfl)
theorem dL_law_1148 : decode cL_law 1148 = .ok (.laload, 1) := dk_47 (dk_at dksL_law_43 5 rfl rfl)
theorem dL_law_1149 : decode cL_law 1149 = .ok (.iload 7, 2) := dk_21 7 (dk_at dksL_law_43 6 rfl rfl)
theorem dL_law_1151 : decode cL_law 1151 = .ok (.i2l, 1) := dk_133 (dk_at dksL_law_43 8 rfl rfl)
theorem dL_law_1152 : decode cL_law 1152 = .ok (.lcmp, 1) := dk_148 (dk_at dksL_law_43 9 rfl rfl)
theorem dL_law_1153 : decode cL_law 1153 = .ok (.ifCond .eq 5, 3) := dk_153 0 5 (dk_at dksL_law_43 10 rfl rfl)
theorem dL_law_1156 : decode cL_law 1156 = .ok (.iconst 0, 1) := dk_3 (dk_at dksL_law_43 13 rfl rfl)
theorem dL_law_1157 : decode cL_law 1157 = .ok (.ireturn, 1) := dk_172 (dk_at dksL_law_43 14 rfl rfl)
theorem dL_law_1158 : decode cL_law 1158 = .ok (.goto 1107, 3) := dk_167 4 83 (dk_at dksL_law_43 15 rfl rfl)
theorem dL_law_1161 : decode cL_law 1161 = .ok (.aload_n 1, 1) := dk_43 (dk_at dksL_law_43 18 rfl rfl)
theorem dL_law_1162 : decode cL_law 1162 = .ok (.aload_n 0, 1) := dk_42 (dk_at dksL_law_43 19 rfl rfl)
theorem dL_law_1163 : decode cL_law 1163 = .ok (.iload 5, 2) := dk_21 5 (dk_at dksL_law_43 20 rfl rfl)
theorem dL_law_1165 : decode cL_law 1165 = .ok (.iconst 1, 1) := dk_4 (dk_at dksL_law_43 22 rfl rfl)
theorem dL_law_1166 : decode cL_law 1166 = .ok (.iadd, 1) := dk_96 (dk_at dksL_law_43 23 rfl rfl)
theorem dL_law_1167 : decode cL_law 1167 = .ok (.iaload, 1) := dk_46 (dk_at dksL_law_44 0 rfl rfl)
theorem dL_law_1168 : decode cL_law 1168 = .ok (.aload_n 3, 1) := dk_45 (dk_at dksL_law_44 1 rfl rfl)
theorem dL_law_1169 : decode cL_law 1169 = .ok (.invokestatic 190, 3) := dk_184 0 190 (dk_at dksL_law_44 2 rfl rfl)
theorem dL_law_1172 : decode cL_law 1172 = .ok (.istore 6, 2) := dk_54 6 (dk_at dksL_law_44 5 rfl rfl)
theorem dL_law_1174 : decode cL_law 1174 = .ok (.aload_n 2, 1) := dk_44 (dk_at dksL_law_44 7 rfl rfl)
theorem dL_law_1175 : decode cL_law 1175 = .ok (.aload_n 0, 1) := dk_42 (dk_at dksL_law_44 8 rfl rfl)
theorem dL_law_1176 : decode cL_law 1176 = .ok (.iload 5, 2) := dk_21 5 (dk_at dksL_law_44 9 rfl rfl)
theorem dL_law_1178 : decode cL_law 1178 = .ok (.iconst 1, 1) := dk_4 (dk_at dksL_law_44 11 rfl rfl)
theorem dL_law_1179 : decode cL_law 1179 = .ok (.iadd, 1) := dk_96 (dk_at dksL_law_44 12 rfl rfl)
theorem dL_law_1180 : decode cL_law 1180 = .ok (.iaload, 1) := dk_46 (dk_at dksL_law_44 13 rfl rfl)
theorem dL_law_1181 : decode cL_law 1181 = .ok (.invokevirtual 192, 3) := dk_182 0 192 (dk_at dksL_law_44 14 rfl rfl)
theorem dL_law_1184 : decode cL_law 1184 = .ok (.istore 7, 2) := dk_54 7 (dk_at dksL_law_44 17 rfl rfl)
theorem dL_law_1186 : decode cL_law 1186 = .ok (.aload_n 2, 1) := dk_44 (dk_at dksL_law_44 19 rfl rfl)
theorem dL_law_1187 : decode cL_law 1187 = .ok (.invokevirtual 138, 3) := dk_182 0 138 (dk_at dksL_law_44 20 rfl rfl)
theorem dL_law_1190 : decode cL_law 1190 = .ok (.iload 6, 2) := dk_21 6 (dk_at dksL_law_45 0 rfl rfl)
theorem dL_law_1192 : decode cL_law 1192 = .ok (.if_icmp .eq 5, 3) := dk_159 0 5 (dk_at dksL_law_45 2 rfl rfl)
theorem dL_law_1195 : decode cL_law 1195 = .ok (.iconst 0, 1) := dk_3 (dk_at dksL_law_45 5 rfl rfl)
theorem dL_law_1196 : decode cL_law 1196 = .ok (.ireturn, 1) := dk_172 (dk_at dksL_law_45 6 rfl rfl)
theorem dL_law_1197 : decode cL_law 1197 = .ok (.iload 6, 2) := dk_21 6 (dk_at dksL_law_45 7 rfl rfl)
theorem dL_law_1199 : decode cL_law 1199 = .ok (.ifCond .ne 15, 3) := dk_154 0 15 (dk_at dksL_law_45 9 rfl rfl)
theorem dL_law_1202 : decode cL_law 1202 = .ok (.aload_n 3, 1) := dk_45 (dk_at dksL_law_45 12 rfl rfl)
theorem dL_law_1203 : decode cL_law 1203 = .ok (.iconst 0, 1) := dk_3 (dk_at dksL_law_45 13 rfl rfl)
theorem dL_law_1204 : decode cL_law 1204 = .ok (.laload, 1) := dk_47 (dk_at dksL_law_45 14 rfl rfl)
theorem dL_law_1205 : decode cL_law 1205 = .ok (.iload 7, 2) := dk_21 7 (dk_at dksL_law_45 15 rfl rfl)
theorem dL_law_1207 : decode cL_law 1207 = .ok (.i2l, 1) := dk_133 (dk_at dksL_law_45 17 rfl rfl)
theorem dL_law_1208 : decode cL_law 1208 = .ok (.lcmp, 1) := dk_148 (dk_at dksL_law_45 18 rfl rfl)
theorem dL_law_1209 : decode cL_law 1209 = .ok (.ifCond .eq 5, 3) := dk_153 0 5 (dk_at dksL_law_45 19 rfl rfl)
theorem dL_law_1212 : decode cL_law 1212 = .ok (.iconst 0, 1) := dk_3 (dk_at dksL_law_45 22 rfl rfl)
theorem dL_law_1213 : decode cL_law 1213 = .ok (.ireturn, 1) := dk_172 (dk_at dksL_law_45 23 rfl rfl)
theorem dL_law_1214 : decode cL_law 1214 = .ok (.goto 1051, 3) := dk_167 4 27 (dk_at dksL_law_46 0 rfl rfl)
theorem dL_law_1217 : decode cL_law 1217 = .ok (.aload_n 1, 1) := dk_43 (dk_at dksL_law_46 3 rfl rfl)
theorem dL_law_1218 : decode cL_law 1218 = .ok (.aload_n 0, 1) := dk_42 (dk_at dksL_law_46 4 rfl rfl)
theorem dL_law_1219 : decode cL_law 1219 = .ok (.iload 5, 2) := dk_21 5 (dk_at dksL_law_46 5 rfl rfl)
theorem dL_law_1221 : decode cL_law 1221 = .ok (.iconst 1, 1) := dk_4 (dk_at dksL_law_46 7 rfl rfl)
theorem dL_law_1222 : decode cL_law 1222 = .ok (.iadd, 1) := dk_96 (dk_at dksL_law_46 8 rfl rfl)
theorem dL_law_1223 : decode cL_law 1223 = .ok (.iaload, 1) := dk_46 (dk_at dksL_law_46 9 rfl rfl)
theorem dL_law_1224 : decode cL_law 1224 = .ok (.aload_n 3, 1) := dk_45 (dk_at dksL_law_46 10 rfl rfl)
theorem dL_law_1225 : decode cL_law 1225 = .ok (.invokestatic 193, 3) := dk_184 0 193 (dk_at dksL_law_46 11 rfl rfl)
theorem dL_law_1228 : decode cL_law 1228 = .ok (.istore 6, 2) := dk_54 6 (dk_at dksL_law_46 14 rfl rfl)
theorem dL_law_1230 : decode cL_law 1230 = .ok (.aload_n 2, 1) := dk_44 (dk_at dksL_law_46 16 rfl rfl)
theorem dL_law_1231 : decode cL_law 1231 = .ok (.aload_n 0, 1) := dk_42 (dk_at dksL_law_46 17 rfl rfl)
theorem dL_law_1232 : decode cL_law 1232 = .ok (.iload 5, 2) := dk_21 5 (dk_at dksL_law_46 18 rfl rfl)
theorem dL_law_1234 : decode cL_law 1234 = .ok (.iconst 1, 1) := dk_4 (dk_at dksL_law_46 20 rfl rfl)
theorem dL_law_1235 : decode cL_law 1235 = .ok (.iadd, 1) := dk_96 (dk_at dksL_law_46 21 rfl rfl)
theorem dL_law_1236 : decode cL_law 1236 = .ok (.iaload, 1) := dk_46 (dk_at dksL_law_46 22 rfl rfl)
theorem dL_law_1237 : decode cL_law 1237 = .ok (.invokevirtual 195, 3) := dk_182 0 195 (dk_at dksL_law_47 0 rfl rfl)
theorem dL_law_1240 : decode cL_law 1240 = .ok (.istore 7, 2) := dk_54 7 (dk_at dksL_law_47 3 rfl rfl)
theorem dL_law_1242 : decode cL_law 1242 = .ok (.aload_n 2, 1) := dk_44 (dk_at dksL_law_47 5 rfl rfl)
theorem dL_law_1243 : decode cL_law 1243 = .ok (.invokevirtual 138, 3) := dk_182 0 138 (dk_at dksL_law_47 6 rfl rfl)
theorem dL_law_1246 : decode cL_law 1246 = .ok (.iload 6, 2) := dk_21 6 (dk_at dksL_law_47 9 rfl rfl)
theorem dL_law_1248 : decode cL_law 1248 = .ok (.if_icmp .eq 5, 3) := dk_159 0 5 (dk_at dksL_law_47 11 rfl rfl)
theorem dL_law_1251 : decode cL_law 1251 = .ok (.iconst 0, 1) := dk_3 (dk_at dksL_law_47 14 rfl rfl)
theorem dL_law_1252 : decode cL_law 1252 = .ok (.ireturn, 1) := dk_172 (dk_at dksL_law_47 15 rfl rfl)
theorem dL_law_1253 : decode cL_law 1253 = .ok (.iload 6, 2) := dk_21 6 (dk_at dksL_law_47 16 rfl rfl)
theorem dL_law_1255 : decode cL_law 1255 = .ok (.ifCond .ne 15, 3) := dk_154 0 15 (dk_at dksL_law_47 18 rfl rfl)
theorem dL_law_1258 : decode cL_law 1258 = .ok (.aload_n 3, 1) := dk_45 (dk_at dksL_law_47 21 rfl rfl)
theorem dL_law_1259 : decode cL_law 1259 = .ok (.iconst 0, 1) := dk_3 (dk_at dksL_law_47 22 rfl rfl)
theorem dL_law_1260 : decode cL_law 1260 = .ok (.laload, 1) := dk_47 (dk_at dksL_law_47 23 rfl rfl)
theorem dL_law_1261 : decode cL_law 1261 = .ok (.iload 7, 2) := dk_21 7 (dk_at dksL_law_48 0 rfl rfl)
theorem dL_law_1263 : decode cL_law 1263 = .ok (.i2l, 1) := dk_133 (dk_at dksL_law_48 2 rfl rfl)
theorem dL_law_1264 : decode cL_law 1264 = .ok (.lcmp, 1) := dk_148 (dk_at dksL_law_48 3 rfl rfl)
theorem dL_law_1265 : decode cL_law 1265 = .ok (.ifCond .eq 5, 3) := dk_153 0 5 (dk_at dksL_law_48 4 rfl rfl)
theorem dL_law_1268 : decode cL_law 1268 = .ok (.iconst 0, 1) := dk_3 (dk_at dksL_law_48 7 rfl rfl)
theorem dL_law_1269 : decode cL_law 1269 = .ok (.ireturn, 1) := dk_172 (dk_at dksL_law_48 8 rfl rfl)
theorem dL_law_1270 : decode cL_law 1270 = .ok (.goto 995, 3) := dk_167 3 227 (dk_at dksL_law_48 9 rfl rfl)
theorem dL_law_1273 : decode cL_law 1273 = .ok (.aload_n 1, 1) := dk_43 (dk_at dksL_law_48 12 rfl rfl)
theorem dL_law_1274 : decode cL_law 1274 = .ok (.aload_n 0, 1) := dk_42 (dk_at dksL_law_48 13 rfl rfl)
theorem dL_law_1275 : decode cL_law 1275 = .ok (.iload 5, 2) := dk_21 5 (dk_at dksL_law_48 14 rfl rfl)
theorem dL_law_1277 : decode cL_law 1277 = .ok (.iconst 1, 1) := dk_4 (dk_at dksL_law_48 16 rfl rfl)
theorem dL_law_1278 : decode cL_law 1278 = .ok (.iadd, 1) := dk_96 (dk_at dksL_law_48 17 rfl rfl)
theorem dL_law_1279 : decode cL_law 1279 = .ok (.iaload, 1) := dk_46 (dk_at dksL_law_48 18 rfl rfl)
theorem dL_law_1280 : decode cL_law 1280 = .ok (.aload_n 3, 1) := dk_45 (dk_at dksL_law_48 19 rfl rfl)
theorem dL_law_1281 : decode cL_law 1281 = .ok (.invokestatic 196, 3) := dk_184 0 196 (dk_at dksL_law_48 20 rfl rfl)
theorem dL_law_1284 : decode cL_law 1284 = .ok (.istore 6, 2) := dk_54 6 (dk_at dksL_law_49 0 rfl rfl)
theorem dL_law_1286 : decode cL_law 1286 = .ok (.aload_n 2, 1) := dk_44 (dk_at dksL_law_49 2 rfl rfl)
theorem dL_law_1287 : decode cL_law 1287 = .ok (.aload_n 0, 1) := dk_42 (dk_at dksL_law_49 3 rfl rfl)
theorem dL_law_1288 : decode cL_law 1288 = .ok (.iload 5, 2) := dk_21 5 (dk_at dksL_law_49 4 rfl rfl)
theorem dL_law_1290 : decode cL_law 1290 = .ok (.iconst 1, 1) := dk_4 (dk_at dksL_law_49 6 rfl rfl)
theorem dL_law_1291 : decode cL_law 1291 = .ok (.iadd, 1) := dk_96 (dk_at dksL_law_49 7 rfl rfl)
theorem dL_law_1292 : decode cL_law 1292 = .ok (.iaload, 1) := dk_46 (dk_at dksL_law_49 8 rfl rfl)
theorem dL_law_1293 : decode cL_law 1293 = .ok (.invokevirtual 198, 3) := dk_182 0 198 (dk_at dksL_law_49 9 rfl rfl)
theorem dL_law_1296 : decode cL_law 1296 = .ok (.istore 7, 2) := dk_54 7 (dk_at dksL_law_49 12 rfl rfl)
theorem dL_law_1298 : decode cL_law 1298 = .ok (.aload_n 2, 1) := dk_44 (dk_at dksL_law_49 14 rfl rfl)
theorem dL_law_1299 : decode cL_law 1299 = .ok (.invokevirtual 138, 3) := dk_182 0 138 (dk_at dksL_law_49 15 rfl rfl)
theorem dL_law_1302 : decode cL_law 1302 = .ok (.iload 6, 2) := dk_21 6 (dk_at dksL_law_49 18 rfl rfl)
theorem dL_law_1304 : decode cL_law 1304 = .ok (.if_icmp .eq 5, 3) := dk_159 0 5 (dk_at dksL_law_49 20 rfl rfl)
theorem dL_law_1307 : decode cL_law 1307 = .ok (.iconst 0, 1) := dk_3 (dk_at dksL_law_49 23 rfl rfl)
theorem dL_law_1308 : decode cL_law 1308 = .ok (.ireturn, 1) := dk_172 (dk_at dksL_law_50 0 rfl rfl)
theorem dL_law_1309 : decode cL_law 1309 = .ok (.iload 6, 2) := dk_21 6 (dk_at dksL_law_50 1 rfl rfl)
theorem dL_law_1311 : decode cL_law 1311 = .ok (.ifCond .ne 15, 3) := dk_154 0 15 (dk_at dksL_law_50 3 rfl rfl)
theorem dL_law_1314 : decode cL_law 1314 = .ok (.aload_n 3, 1) := dk_45 (dk_at dksL_law_50 6 rfl rfl)
theorem dL_law_1315 : decode cL_law 1315 = .ok (.iconst 0, 1) := dk_3 (dk_at dksL_law_50 7 rfl rfl)
theorem dL_law_1316 : decode cL_law 1316 = .ok (.laload, 1) := dk_47 (dk_at dksL_law_50 8 rfl rfl)
theorem dL_law_1317 : decode cL_law 1317 = .ok (.iload 7, 2) := dk_21 7 (dk_at dksL_law_50 9 rfl rfl)
theorem dL_law_1319 : decode cL_law 1319 = .ok (.i2l, 1) := dk_133 (dk_at dksL_law_50 11 rfl rfl)
theorem dL_law_1320 : decode cL_law 1320 = .ok (.lcmp, 1) := dk_148 (dk_at dksL_law_50 12 rfl rfl)
theorem dL_law_1321 : decode cL_law 1321 = .ok (.ifCond .eq 5, 3) := dk_153 0 5 (dk_at dksL_law_50 13 rfl rfl)
theorem dL_law_1324 : decode cL_law 1324 = .ok (.iconst 0, 1) := dk_3 (dk_at dksL_law_50 16 rfl rfl)
theorem dL_law_1325 : decode cL_law 1325 = .ok (.ireturn, 1) := dk_172 (dk_at dksL_law_50 17 rfl rfl)
theorem dL_law_1326 : decode cL_law 1326 = .ok (.goto 939, 3) := dk_167 3 171 (dk_at dksL_law_50 18 rfl rfl)
theorem dL_law_1329 : decode cL_law 1329 = .ok (.aload_n 1, 1) := dk_43 (dk_at dksL_law_50 21 rfl rfl)
theorem dL_law_1330 : decode cL_law 1330 = .ok (.aload_n 0, 1) := dk_42 (dk_at dksL_law_50 22 rfl rfl)
theorem dL_law_1331 : decode cL_law 1331 = .ok (.iload 5, 2) := dk_21 5 (dk_at dksL_law_51 0 rfl rfl)
theorem dL_law_1333 : decode cL_law 1333 = .ok (.iconst 1, 1) := dk_4 (dk_at dksL_law_51 2 rfl rfl)
theorem dL_law_1334 : decode cL_law 1334 = .ok (.iadd, 1) := dk_96 (dk_at dksL_law_51 3 rfl rfl)
theorem dL_law_1335 : decode cL_law 1335 = .ok (.iaload, 1) := dk_46 (dk_at dksL_law_51 4 rfl rfl)
theorem dL_law_1336 : decode cL_law 1336 = .ok (.aload_n 0, 1) := dk_42 (dk_at dksL_law_51 5 rfl rfl)
theorem dL_law_1337 : decode cL_law 1337 = .ok (.iload 5, 2) := dk_21 5 (dk_at dksL_law_51 6 rfl rfl)
theorem dL_law_1339 : decode cL_law 1339 = .ok (.iconst 2, 1) := dk_5 (dk_at dksL_law_51 8 rfl rfl)
theorem dL_law_1340 : decode cL_law 1340 = .ok (.iadd, 1) := dk_96 (dk_at dksL_law_51 9 rfl rfl)
theorem dL_law_1341 : decode cL_law 1341 = .ok (.iaload, 1) := dk_46 (dk_at dksL_law_51 10 rfl rfl)
theorem dL_law_1342 : decode cL_law 1342 = .ok (.aload_n 3, 1) := dk_45 (dk_at dksL_law_51 11 rfl rfl)
theorem dL_law_1343 : decode cL_law 1343 = .ok (.invokestatic 199, 3) := dk_184 0 199 (dk_at dksL_law_51 12 rfl rfl)
theorem dL_law_1346 : decode cL_law 1346 = .ok (.istore 6, 2) := dk_54 6 (dk_at dksL_law_51 15 rfl rfl)
theorem dL_law_1348 : decode cL_law 1348 = .ok (.aload_n 2, 1) := dk_44 (dk_at dksL_law_51 17 rfl rfl)
theorem dL_law_1349 : decode cL_law 1349 = .ok (.aload_n 0, 1) := dk_42 (dk_at dksL_law_51 18 rfl rfl)
theorem dL_law_1350 : decode cL_law 1350 = .ok (.iload 5, 2) := dk_21 5 (dk_at dksL_law_51 19 rfl rfl)
theorem dL_law_1352 : decode cL_law 1352 = .ok (.iconst 1, 1) := dk_4 (dk_at dksL_law_51 21 rfl rfl)
theorem dL_law_1353 : decode cL_law 1353 = .ok (.iadd, 1) := dk_96 (dk_at dksL_law_51 22 rfl rfl)
theorem dL_law_1354 : decode cL_law 1354 = .ok (.iaload, 1) := dk_46 (dk_at dksL_law_51 23 rfl rfl)
theorem dL_law_1355 : decode cL_law 1355 = .ok (.aload_n 0, 1) := dk_42 (dk_at dksL_law_52 0 rfl rfl)
theorem dL_law_1356 : decode cL_law 1356 = .ok (.iload 5, 2) := dk_21 5 (dk_at dksL_law_52 1 rfl rfl)
theorem dL_law_1358 : decode cL_law 1358 = .ok (.iconst 2, 1) := dk_5 (dk_at dksL_law_52 3 rfl rfl)
theorem dL_law_1359 : decode cL_law 1359 = .ok (.iadd, 1) := dk_96 (dk_at dksL_law_52 4 rfl rfl)
theorem dL_law_1360 : decode cL_law 1360 = .ok (.iaload, 1) := dk_46 (dk_at dksL_law_52 5 rfl rfl)
theorem dL_law_1361 : decode cL_law 1361 = .ok (.invokevirtual 201, 3) := dk_182 0 201 (dk_at dksL_law_52 6 rfl rfl)
theorem dL_law_1364 : decode cL_law 1364 = .ok (.istore 7, 2) := dk_54 7 (dk_at dksL_law_52 9 rfl rfl)
theorem dL_law_1366 : decode cL_law 1366 = .ok (.aload_n 2, 1) := dk_44 (dk_at dksL_law_52 11 rfl rfl)
theorem dL_law_1367 : decode cL_law 1367 = .ok (.invokevirtual 138, 3) := dk_182 0 138 (dk_at dksL_law_52 12 rfl rfl)
theorem dL_law_1370 : decode cL_law 1370 = .ok (.iload 6, 2) := dk_21 6 (dk_at dksL_law_52 15 rfl rfl)
theorem dL_law_1372 : decode cL_law 1372 = .ok (.if_icmp .eq 5, 3) := dk_159 0 5 (dk_at dksL_law_52 17 rfl rfl)
theorem dL_law_1375 : decode cL_law 1375 = .ok (.iconst 0, 1) := dk_3 (dk_at dksL_law_52 20 rfl rfl)
theorem dL_law_1376 : decode cL_law 1376 = .ok (.ireturn, 1) := dk_172 (dk_at dksL_law_52 21 rfl rfl)
theorem dL_law_1377 : decode cL_law 1377 = .ok (.iload 6, 2) := dk_21 6 (dk_at dksL_law_52 22 rfl rfl)
theorem dL_law_1379 : decode cL_law 1379 = .ok (.ifCond .ne 15, 3) := dk_154 0 15 (dk_at dksL_law_53 0 rfl rfl)
theorem dL_law_1382 : decode cL_law 1382 = .ok (.aload_n 3, 1) := dk_45 (dk_at dksL_law_53 3 rfl rfl)
theorem dL_law_1383 : decode cL_law 1383 = .ok (.iconst 0, 1) := dk_3 (dk_at dksL_law_53 4 rfl rfl)
theorem dL_law_1384 : decode cL_law 1384 = .ok (.laload, 1) := dk_47 (dk_at dksL_law_53 5 rfl rfl)
theorem dL_law_1385 : decode cL_law 1385 = .ok (.iload 7, 2) := dk_21 7 (dk_at dksL_law_53 6 rfl rfl)
theorem dL_law_1387 : decode cL_law 1387 = .ok (.i2l, 1) := dk_133 (dk_at dksL_law_53 8 rfl rfl)
theorem dL_law_1388 : decode cL_law 1388 = .ok (.lcmp, 1) := dk_148 (dk_at dksL_law_53 9 rfl rfl)
theorem dL_law_1389 : decode cL_law 1389 = .ok (.ifCond .eq 5, 3) := dk_153 0 5 (dk_at dksL_law_53 10 rfl rfl)
theorem dL_law_1392 : decode cL_law 1392 = .ok (.iconst 0, 1) := dk_3 (dk_at dksL_law_53 13 rfl rfl)
theorem dL_law_1393 : decode cL_law 1393 = .ok (.ireturn, 1) := dk_172 (dk_at dksL_law_53 14 rfl rfl)
theorem dL_law_1394 : decode cL_law 1394 = .ok (.goto 871, 3) := dk_167 3 103 (dk_at dksL_law_53 15 rfl rfl)
theorem dL_law_1397 : decode cL_law 1397 = .ok (.aload_n 1, 1) := dk_43 (dk_at dksL_law_53 18 rfl rfl)
theorem dL_law_1398 : decode cL_law 1398 = .ok (.aload_n 0, 1) := dk_42 (dk_at dksL_law_53 19 rfl rfl)
theorem dL_law_1399 : decode cL_law 1399 = .ok (.iload 5, 2) := dk_21 5 (dk_at dksL_law_53 20 rfl rfl)
theorem dL_law_1401 : decode cL_law 1401 = .ok (.iconst 1, 1) := dk_4 (dk_at dksL_law_53 22 rfl rfl)
theorem dL_law_1402 : decode cL_law 1402 = .ok (.iadd, 1) := dk_96 (dk_at dksL_law_53 23 rfl rfl)
theorem dL_law_1403 : decode cL_law 1403 = .ok (.iaload, 1) := dk_46 (dk_at dksL_law_54 0 rfl rfl)
theorem dL_law_1404 : decode cL_law 1404 = .ok (.aload_n 0, 1) := dk_42 (dk_at dksL_law_54 1 rfl rfl)
theorem dL_law_1405 : decode cL_law 1405 = .ok (.iload 5, 2) := dk_21 5 (dk_at dksL_law_54 2 rfl rfl)
theorem dL_law_1407 : decode cL_law 1407 = .ok (.iconst 2, 1) := dk_5 (dk_at dksL_law_54 4 rfl rfl)
theorem dL_law_1408 : decode cL_law 1408 = .ok (.iadd, 1) := dk_96 (dk_at dksL_law_54 5 rfl rfl)
theorem dL_law_1409 : decode cL_law 1409 = .ok (.iaload, 1) := dk_46 (dk_at dksL_law_54 6 rfl rfl)
theorem dL_law_1410 : decode cL_law 1410 = .ok (.aload_n 3, 1) := dk_45 (dk_at dksL_law_54 7 rfl rfl)
theorem dL_law_1411 : decode cL_law 1411 = .ok (.invokestatic 202, 3) := dk_184 0 202 (dk_at dksL_law_54 8 rfl rfl)
theorem dL_law_1414 : decode cL_law 1414 = .ok (.istore 6, 2) := dk_54 6 (dk_at dksL_law_54 11 rfl rfl)
theorem dL_law_1416 : decode cL_law 1416 = .ok (.aload_n 2, 1) := dk_44 (dk_at dksL_law_54 13 rfl rfl)
theorem dL_law_1417 : decode cL_law 1417 = .ok (.aload_n 0, 1) := dk_42 (dk_at dksL_law_54 14 rfl rfl)
theorem dL_law_1418 : decode cL_law 1418 = .ok (.iload 5, 2) := dk_21 5 (dk_at dksL_law_54 15 rfl rfl)
theorem dL_law_1420 : decode cL_law 1420 = .ok (.iconst 1, 1) := dk_4 (dk_at dksL_law_54 17 rfl rfl)
theorem dL_law_1421 : decode cL_law 1421 = .ok (.iadd, 1) := dk_96 (dk_at dksL_law_54 18 rfl rfl)
theorem dL_law_1422 : decode cL_law 1422 = .ok (.iaload, 1) := dk_46 (dk_at dksL_law_54 19 rfl rfl)
theorem dL_law_1423 : decode cL_law 1423 = .ok (.aload_n 0, 1) := dk_42 (dk_at dksL_law_54 20 rfl rfl)
theorem dL_law_1424 : decode cL_law 1424 = .ok (.iload 5, 2) := dk_21 5 (dk_at dksL_law_54 21 rfl rfl)
theorem dL_law_1426 : decode cL_law 1426 = .ok (.iconst 2, 1) := dk_5 (dk_at dksL_law_54 23 rfl rfl)
theorem dL_law_1427 : decode cL_law 1427 = .ok (.iadd, 1) := dk_96 (dk_at dksL_law_55 0 rfl rfl)
theorem dL_law_1428 : decode cL_law 1428 = .ok (.iaload, 1) := dk_46 (dk_at dksL_law_55 1 rfl rfl)
theorem dL_law_1429 : decode cL_law 1429 = .ok (.invokevirtual 204, 3) := dk_182 0 204 (dk_at dksL_law_55 2 rfl rfl)
theorem dL_law_1432 : decode cL_law 1432 = .ok (.istore 7, 2) := dk_54 7 (dk_at dksL_law_55 5 rfl rfl)
theorem dL_law_1434 : decode cL_law 1434 = .ok (.aload_n 2, 1) := dk_44 (dk_at dksL_law_55 7 rfl rfl)
theorem dL_law_1435 : decode cL_law 1435 = .ok (.invokevirtual 138, 3) := dk_182 0 138 (dk_at dksL_law_55 8 rfl rfl)
theorem dL_law_1438 : decode cL_law 1438 = .ok (.iload 6, 2) := dk_21 6 (dk_at dksL_law_55 11 rfl rfl)
theorem dL_law_1440 : decode cL_law 1440 = .ok (.if_icmp .eq 5, 3) := dk_159 0 5 (dk_at dksL_law_55 13 rfl rfl)
theorem dL_law_1443 : decode cL_law 1443 = .ok (.iconst 0, 1) := dk_3 (dk_at dksL_law_55 16 rfl rfl)
theorem dL_law_1444 : decode cL_law 1444 = .ok (.ireturn, 1) := dk_172 (dk_at dksL_law_55 17 rfl rfl)
theorem dL_law_1445 : decode cL_law 1445 = .ok (.iload 6, 2) := dk_21 6 (dk_at dksL_law_55 18 rfl rfl)
theorem dL_law_1447 : decode cL_law 1447 = .ok (.ifCond .ne 15, 3) := dk_154 0 15 (dk_at dksL_law_55 20 rfl rfl)
theorem dL_law_1450 : decode cL_law 1450 = .ok (.aload_n 3, 1) := dk_45 (dk_at dksL_law_55 23 rfl rfl)
theorem dL_law_1451 : decode cL_law 1451 = .ok (.iconst 0, 1) := dk_3 (dk_at dksL_law_56 0 rfl rfl)
theorem dL_law_1452 : decode cL_law 1452 = .ok (.laload, 1) := dk_47 (dk_at dksL_law_56 1 rfl rfl)
theorem dL_law_1453 : decode cL_law 1453 = .ok (.iload 7, 2) := dk_21 7 (dk_at dksL_law_56 2 rfl rfl)
theorem dL_law_1455 : decode cL_law 1455 = .ok (.i2l, 1) := dk_133 (dk_at dksL_law_56 4 rfl rfl)
theorem dL_law_1456 : decode cL_law 1456 = .ok (.lcmp, 1) := dk_148 (dk_at dksL_law_56 5 rfl rfl)
theorem dL_law_1457 : decode cL_law 1457 = .ok (.ifCond .eq 5, 3) := dk_153 0 5 (dk_at dksL_law_56 6 rfl rfl)
theorem dL_law_1460 : decode cL_law 1460 = .ok (.iconst 0, 1) := dk_3 (dk_at dksL_law_56 9 rfl rfl)
theorem dL_law_1461 : decode cL_law 1461 = .ok (.ireturn, 1) := dk_172 (dk_at dksL_law_56 10 rfl rfl)
theorem dL_law_1462 : decode cL_law 1462 = .ok (.goto 803, 3) := dk_167 3 35 (dk_at dksL_law_56 11 rfl rfl)
theorem dL_law_1465 : decode cL_law 1465 = .ok (.aload_n 1, 1) := dk_43 (dk_at dksL_law_56 14 rfl rfl)
theorem dL_law_1466 : decode cL_law 1466 = .ok (.aload_n 0, 1) := dk_42 (dk_at dksL_law_56 15 rfl rfl)
theorem dL_law_1467 : decode cL_law 1467 = .ok (.iload 5, 2) := dk_21 5 (dk_at dksL_law_56 16 rfl rfl)
theorem dL_law_1469 : decode cL_law 1469 = .ok (.iconst 1, 1) := dk_4 (dk_at dksL_law_56 18 rfl rfl)
theorem dL_law_1470 : decode cL_law 1470 = .ok (.iadd, 1) := dk_96 (dk_at dksL_law_56 19 rfl rfl)
theorem dL_law_1471 : decode cL_law 1471 = .ok (.iaload, 1) := dk_46 (dk_at dksL_law_56 20 rfl rfl)
theorem dL_law_1472 : decode cL_law 1472 = .ok (.aload_n 3, 1) := dk_45 (dk_at dksL_law_56 21 rfl rfl)
theorem dL_law_1473 : decode cL_law 1473 = .ok (.invokestatic 205, 3) := dk_184 0 205 (dk_at dksL_law_57 0 rfl rfl)
theorem dL_law_1476 : decode cL_law 1476 = .ok (.istore 6, 2) := dk_54 6 (dk_at dksL_law_57 3 rfl rfl)
theorem dL_law_1478 : decode cL_law 1478 = .ok (.aload_n 2, 1) := dk_44 (dk_at dksL_law_57 5 rfl rfl)
theorem dL_law_1479 : decode cL_law 1479 = .ok (.aload_n 0, 1) := dk_42 (dk_at dksL_law_57 6 rfl rfl)
theorem dL_law_1480 : decode cL_law 1480 = .ok (.iload 5, 2) := dk_21 5 (dk_at dksL_law_57 7 rfl rfl)
theorem dL_law_1482 : decode cL_law 1482 = .ok (.iconst 1, 1) := dk_4 (dk_at dksL_law_57 9 rfl rfl)
theorem dL_law_1483 : decode cL_law 1483 = .ok (.iadd, 1) := dk_96 (dk_at dksL_law_57 10 rfl rfl)
theorem dL_law_1484 : decode cL_law 1484 = .ok (.iaload, 1) := dk_46 (dk_at dksL_law_57 11 rfl rfl)
theorem dL_law_1485 : decode cL_law 1485 = .ok (.invokevirtual 207, 3) := dk_182 0 207 (dk_at dksL_law_57 12 rfl rfl)
theorem dL_law_1488 : decode cL_law 1488 = .ok (.istore 7, 2) := dk_54 7 (dk_at dksL_law_57 15 rfl rfl)
theorem dL_law_1490 : decode cL_law 1490 = .ok (.aload_n 2, 1) := dk_44 (dk_at dksL_law_57 17 rfl rfl)
theorem dL_law_1491 : decode cL_law 1491 = .ok (.invokevirtual 138, 3) := dk_182 0 138 (dk_at dksL_law_57 18 rfl rfl)
theorem dL_law_1494 : decode cL_law 1494 = .ok (.iload 6, 2) := dk_21 6 (dk_at dksL_law_57 21 rfl rfl)
theorem dL_law_1496 : decode cL_law 1496 = .ok (.if_icmp .eq 5, 3) := dk_159 0 5 (dk_at dksL_law_58 0 rfl rfl)
theorem dL_law_1499 : decode cL_law 1499 = .ok (.iconst 0, 1) := dk_3 (dk_at dksL_law_58 3 rfl rfl)
theorem dL_law_1500 : decode cL_law 1500 = .ok (.ireturn, 1) := dk_172 (dk_at dksL_law_58 4 rfl rfl)
theorem dL_law_1501 : decode cL_law 1501 = .ok (.iload 6, 2) := dk_21 6 (dk_at dksL_law_58 5 rfl rfl)
theorem dL_law_1503 : decode cL_law 1503 = .ok (.ifCond .ne 15, 3) := dk_154 0 15 (dk_at dksL_law_58 7 rfl rfl)
theorem dL_law_1506 : decode cL_law 1506 = .ok (.aload_n 3, 1) := dk_45 (dk_at dksL_law_58 10 rfl rfl)
theorem dL_law_1507 : decode cL_law 1507 = .ok (.iconst 0, 1) := dk_3 (dk_at dksL_law_58 11 rfl rfl)
theorem dL_law_1508 : decode cL_law 1508 = .ok (.laload, 1) := dk_47 (dk_at dksL_law_58 12 rfl rfl)
theorem dL_law_1509 : decode cL_law 1509 = .ok (.iload 7, 2) := dk_21 7 (dk_at dksL_law_58 13 rfl rfl)
theorem dL_law_1511 : decode cL_law 1511 = .ok (.i2l, 1) := dk_133 (dk_at dksL_law_58 15 rfl rfl)
theorem dL_law_1512 : decode cL_law 1512 = .ok (.lcmp, 1) := dk_148 (dk_at dksL_law_58 16 rfl rfl)
theorem dL_law_1513 : decode cL_law 1513 = .ok (.ifCond .eq 5, 3) := dk_153 0 5 (dk_at dksL_law_58 17 rfl rfl)
theorem dL_law_1516 : decode cL_law 1516 = .ok (.iconst 0, 1) := dk_3 (dk_at dksL_law_58 20 rfl rfl)
theorem dL_law_1517 : decode cL_law 1517 = .ok (.ireturn, 1) := dk_172 (dk_at dksL_law_58 21 rfl rfl)
theorem dL_law_1518 : decode cL_law 1518 = .ok (.goto 747, 3) := dk_167 2 235 (dk_at dksL_law_59 0 rfl rfl)
theorem dL_law_1521 : decode cL_law 1521 = .ok (.aload_n 1, 1) := dk_43 (dk_at dksL_law_59 3 rfl rfl)
theorem dL_law_1522 : decode cL_law 1522 = .ok (.aload_n 0, 1) := dk_42 (dk_at dksL_law_59 4 rfl rfl)
theorem dL_law_1523 : decode cL_law 1523 = .ok (.iload 5, 2) := dk_21 5 (dk_at dksL_law_59 5 rfl rfl)
theorem dL_law_1525 : decode cL_law 1525 = .ok (.iconst 1, 1) := dk_4 (dk_at dksL_law_59 7 rfl rfl)
theorem dL_law_1526 : decode cL_law 1526 = .ok (.iadd, 1) := dk_96 (dk_at dksL_law_59 8 rfl rfl)
theorem dL_law_1527 : decode cL_law 1527 = .ok (.iaload, 1) := dk_46 (dk_at dksL_law_59 9 rfl rfl)
theorem dL_law_1528 : decode cL_law 1528 = .ok (.aload_n 3, 1) := dk_45 (dk_at dksL_law_59 10 rfl rfl)
theorem dL_law_1529 : decode cL_law 1529 = .ok (.invokestatic 208, 3) := dk_184 0 208 (dk_at dksL_law_59 11 rfl rfl)
theorem dL_law_1532 : decode cL_law 1532 = .ok (.istore 6, 2) := dk_54 6 (dk_at dksL_law_59 14 rfl rfl)
theorem dL_law_1534 : decode cL_law 1534 = .ok (.aload_n 2, 1) := dk_44 (dk_at dksL_law_59 16 rfl rfl)
theorem dL_law_1535 : decode cL_law 1535 = .ok (.aload_n 0, 1) := dk_42 (dk_at dksL_law_59 17 rfl rfl)
theorem dL_law_1536 : decode cL_law 1536 = .ok (.iload 5, 2) := dk_21 5 (dk_at dksL_law_59 18 rfl rfl)
theorem dL_law_1538 : decode cL_law 1538 = .ok (.iconst 1, 1) := dk_4 (dk_at dksL_law_59 20 rfl rfl)
theorem dL_law_1539 : decode cL_law 1539 = .ok (.iadd, 1) := dk_96 (dk_at dksL_law_59 21 rfl rfl)
theorem dL_law_1540 : decode cL_law 1540 = .ok (.iaload, 1) := dk_46 (dk_at dksL_law_59 22 rfl rfl)
theorem dL_law_1541 : decode cL_law 1541 = .ok (.invokevirtual 210, 3) := dk_182 0 210 (dk_at dksL_law_60 0 rfl rfl)
theorem dL_law_1544 : decode cL_law 1544 = .ok (.istore 7, 2) := dk_54 7 (dk_at dksL_law_60 3 rfl rfl)
theorem dL_law_1546 : decode cL_law 1546 = .ok (.aload_n 2, 1) := dk_44 (dk_at dksL_law_60 5 rfl rfl)
theorem dL_law_1547 : decode cL_law 1547 = .ok (.invokevirtual 138, 3) := dk_182 0 138 (dk_at dksL_law_60 6 rfl rfl)
theorem dL_law_1550 : decode cL_law 1550 = .ok (.iload 6, 2) := dk_21 6 (dk_at dksL_law_60 9 rfl rfl)
theorem dL_law_1552 : decode cL_law 1552 = .ok (.if_icmp .eq 5, 3) := dk_159 0 5 (dk_at dksL_law_60 11 rfl rfl)
theorem dL_law_1555 : decode cL_law 1555 = .ok (.iconst 0, 1) := dk_3 (dk_at dksL_law_60 14 rfl rfl)
theorem dL_law_1556 : decode cL_law 1556 = .ok (.ireturn, 1) := dk_172 (dk_at dksL_law_60 15 rfl rfl)
theorem dL_law_1557 : decode cL_law 1557 = .ok (.iload 6, 2) := dk_21 6 (dk_at dksL_law_60 16 rfl rfl)
theorem dL_law_1559 : decode cL_law 1559 = .ok (.ifCond .ne 15, 3) := dk_154 0 15 (dk_at dksL_law_60 18 rfl rfl)
theorem dL_law_1562 : decode cL_law 1562 = .ok (.aload_n 3, 1) := dk_45 (dk_at dksL_law_60 21 rfl rfl)
theorem dL_law_1563 : decode cL_law 1563 = .ok (.iconst 0, 1) := dk_3 (dk_at dksL_law_60 22 rfl rfl)
theorem dL_law_1564 : decode cL_law 1564 = .ok (.laload, 1) := dk_47 (dk_at dksL_law_60 23 rfl rfl)
theorem dL_law_1565 : decode cL_law 1565 = .ok (.iload 7, 2) := dk_21 7 (dk_at dksL_law_61 0 rfl rfl)
theorem dL_law_1567 : decode cL_law 1567 = .ok (.i2l, 1) := dk_133 (dk_at dksL_law_61 2 rfl rfl)
theorem dL_law_1568 : decode cL_law 1568 = .ok (.lcmp, 1) := dk_148 (dk_at dksL_law_61 3 rfl rfl)
theorem dL_law_1569 : decode cL_law 1569 = .ok (.ifCond .eq 5, 3) := dk_153 0 5 (dk_at dksL_law_61 4 rfl rfl)
theorem dL_law_1572 : decode cL_law 1572 = .ok (.iconst 0, 1) := dk_3 (dk_at dksL_law_61 7 rfl rfl)
theorem dL_law_1573 : decode cL_law 1573 = .ok (.ireturn, 1) := dk_172 (dk_at dksL_law_61 8 rfl rfl)
theorem dL_law_1574 : decode cL_law 1574 = .ok (.goto 691, 3) := dk_167 2 179 (dk_at dksL_law_61 9 rfl rfl)
theorem dL_law_1577 : decode cL_law 1577 = .ok (.aload_n 1, 1) := dk_43 (dk_at dksL_law_61 12 rfl rfl)
theorem dL_law_1578 : decode cL_law 1578 = .ok (.aload_n 0, 1) := dk_42 (dk_at dksL_law_61 13 rfl rfl)
theorem dL_law_1579 : decode cL_law 1579 = .ok (.iload 5, 2) := dk_21 5 (dk_at dksL_law_61 14 rfl rfl)
theorem dL_law_1581 : decode cL_law 1581 = .ok (.iconst 1, 1) := dk_4 (dk_at dksL_law_61 16 rfl rfl)
theorem dL_law_1582 : decode cL_law 1582 = .ok (.iadd, 1) := dk_96 (dk_at dksL_law_61 17 rfl rfl)
theorem dL_law_1583 : decode cL_law 1583 = .ok (.iaload, 1) := dk_46 (dk_at dksL_law_61 18 rfl rfl)
theorem dL_law_1584 : decode cL_law 1584 = .ok (.aload_n 3, 1) := dk_45 (dk_at dksL_law_61 19 rfl rfl)
theorem dL_law_1585 : decode cL_law 1585 = .ok (.invokestatic 211, 3) := dk_184 0 211 (dk_at dksL_law_61 20 rfl rfl)
theorem dL_law_1588 : decode cL_law 1588 = .ok (.istore 6, 2) := dk_54 6 (dk_at dksL_law_62 0 rfl rfl)
theorem dL_law_1590 : decode cL_law 1590 = .ok (.aload_n 2, 1) := dk_44 (dk_at dksL_law_62 2 rfl rfl)
theorem dL_law_1591 : decode cL_law 1591 = .ok (.aload_n 0, 1) := dk_42 (dk_at dksL_law_62 3 rfl rfl)
theorem dL_law_1592 : decode cL_law 1592 = .ok (.iload 5, 2) := dk_21 5 (dk_at dksL_law_62 4 rfl rfl)
theorem dL_law_1594 : decode cL_law 1594 = .ok (.iconst 1, 1) := dk_4 (dk_at dksL_law_62 6 rfl rfl)
theorem dL_law_1595 : decode cL_law 1595 = .ok (.iadd, 1) := dk_96 (dk_at dksL_law_62 7 rfl rfl)
theorem dL_law_1596 : decode cL_law 1596 = .ok (.iaload, 1) := dk_46 (dk_at dksL_law_62 8 rfl rfl)
theorem dL_law_1597 : decode cL_law 1597 = .ok (.invokevirtual 213, 3) := dk_182 0 213 (dk_at dksL_law_62 9 rfl rfl)
theorem dL_law_1600 : decode cL_law 1600 = .ok (.istore 7, 2) := dk_54 7 (dk_at dksL_law_62 12 rfl rfl)
theorem dL_law_1602 : decode cL_law 1602 = .ok (.aload_n 2, 1) := dk_44 (dk_at dksL_law_62 14 rfl rfl)
theorem dL_law_1603 : decode cL_law 1603 = .ok (.invokevirtual 138, 3) := dk_182 0 138 (dk_at dksL_law_62 15 rfl rfl)
theorem dL_law_1606 : decode cL_law 1606 = .ok (.iload 6, 2) := dk_21 6 (dk_at dksL_law_62 18 rfl rfl)
theorem dL_law_1608 : decode cL_law 1608 = .ok (.if_icmp .eq 5, 3) := dk_159 0 5 (dk_at dksL_law_62 20 rfl rfl)
theorem dL_law_1611 : decode cL_law 1611 = .ok (.iconst 0, 1) := dk_3 (dk_at dksL_law_62 23 rfl rfl)
theorem dL_law_1612 : decode cL_law 1612 = .ok (.ireturn, 1) := dk_172 (dk_at dksL_law_63 0 rfl rfl)
theorem dL_law_1613 : decode cL_law 1613 = .ok (.iload 6, 2) := dk_21 6 (dk_at dksL_law_63 1 rfl rfl)
theorem dL_law_1615 : decode cL_law 1615 = .ok (.ifCond .ne 15, 3) := dk_154 0 15 (dk_at dksL_law_63 3 rfl rfl)
theorem dL_law_1618 : decode cL_law 1618 = .ok (.aload_n 3, 1) := dk_45 (dk_at dksL_law_63 6 rfl rfl)
theorem dL_law_1619 : decode cL_law 1619 = .ok (.iconst 0, 1) := dk_3 (dk_at dksL_law_63 7 rfl rfl)
theorem dL_law_1620 : decode cL_law 1620 = .ok (.laload, 1) := dk_47 (dk_at dksL_law_63 8 rfl rfl)
theorem dL_law_1621 : decode cL_law 1621 = .ok (.iload 7, 2) := dk_21 7 (dk_at dksL_law_63 9 rfl rfl)
theorem dL_law_1623 : decode cL_law 1623 = .ok (.i2l, 1) := dk_133 (dk_at dksL_law_63 11 rfl rfl)
theorem dL_law_1624 : decode cL_law 1624 = .ok (.lcmp, 1) := dk_148 (dk_at dksL_law_63 12 rfl rfl)
theorem dL_law_1625 : decode cL_law 1625 = .ok (.ifCond .eq 5, 3) := dk_153 0 5 (dk_at dksL_law_63 13 rfl rfl)
theorem dL_law_1628 : decode cL_law 1628 = .ok (.iconst 0, 1) := dk_3 (dk_at dksL_law_63 16 rfl rfl)
theorem dL_law_1629 : decode cL_law 1629 = .ok (.ireturn, 1) := dk_172 (dk_at dksL_law_63 17 rfl rfl)
theorem dL_law_1630 : decode cL_law 1630 = .ok (.goto 635, 3) := dk_167 2 123 (dk_at dksL_law_63 18 rfl rfl)
theorem dL_law_1633 : decode cL_law 1633 = .ok (.aload_n 1, 1) := dk_43 (dk_at dksL_law_63 21 rfl rfl)
theorem dL_law_1634 : decode cL_law 1634 = .ok (.invokevirtual 214, 3) := dk_182 0 214 (dk_at dksL_law_64 0 rfl rfl)
theorem dL_law_1637 : decode cL_law 1637 = .ok (.aload_n 2, 1) := dk_44 (dk_at dksL_law_64 3 rfl rfl)
theorem dL_law_1638 : decode cL_law 1638 = .ok (.invokevirtual 217, 3) := dk_182 0 217 (dk_at dksL_law_64 4 rfl rfl)
theorem dL_law_1641 : decode cL_law 1641 = .ok (.if_icmp .eq 624, 3) := dk_159 2 112 (dk_at dksL_law_64 7 rfl rfl)
theorem dL_law_1644 : decode cL_law 1644 = .ok (.iconst 0, 1) := dk_3 (dk_at dksL_law_64 10 rfl rfl)
theorem dL_law_1645 : decode cL_law 1645 = .ok (.ireturn, 1) := dk_172 (dk_at dksL_law_64 11 rfl rfl)
theorem dL_law_1646 : decode cL_law 1646 = .ok (.aload_n 1, 1) := dk_43 (dk_at dksL_law_64 12 rfl rfl)
theorem dL_law_1647 : decode cL_law 1647 = .ok (.aload_n 0, 1) := dk_42 (dk_at dksL_law_64 13 rfl rfl)
theorem dL_law_1648 : decode cL_law 1648 = .ok (.iload 5, 2) := dk_21 5 (dk_at dksL_law_64 14 rfl rfl)
theorem dL_law_1650 : decode cL_law 1650 = .ok (.iconst 1, 1) := dk_4 (dk_at dksL_law_64 16 rfl rfl)
theorem dL_law_1651 : decode cL_law 1651 = .ok (.iadd, 1) := dk_96 (dk_at dksL_law_64 17 rfl rfl)
theorem dL_law_1652 : decode cL_law 1652 = .ok (.iaload, 1) := dk_46 (dk_at dksL_law_64 18 rfl rfl)
theorem dL_law_1653 : decode cL_law 1653 = .ok (.aload_n 3, 1) := dk_45 (dk_at dksL_law_64 19 rfl rfl)
theorem dL_law_1654 : decode cL_law 1654 = .ok (.invokestatic 218, 3) := dk_184 0 218 (dk_at dksL_law_64 20 rfl rfl)
theorem dL_law_1657 : decode cL_law 1657 = .ok (.istore 6, 2) := dk_54 6 (dk_at dksL_law_65 0 rfl rfl)
theorem dL_law_1659 : decode cL_law 1659 = .ok (.aload_n 2, 1) := dk_44 (dk_at dksL_law_65 2 rfl rfl)
theorem dL_law_1660 : decode cL_law 1660 = .ok (.aload_n 0, 1) := dk_42 (dk_at dksL_law_65 3 rfl rfl)
theorem dL_law_1661 : decode cL_law 1661 = .ok (.iload 5, 2) := dk_21 5 (dk_at dksL_law_65 4 rfl rfl)
theorem dL_law_1663 : decode cL_law 1663 = .ok (.iconst 1, 1) := dk_4 (dk_at dksL_law_65 6 rfl rfl)
theorem dL_law_1664 : decode cL_law 1664 = .ok (.iadd, 1) := dk_96 (dk_at dksL_law_65 7 rfl rfl)
theorem dL_law_1665 : decode cL_law 1665 = .ok (.iaload, 1) := dk_46 (dk_at dksL_law_65 8 rfl rfl)
theorem dL_law_1666 : decode cL_law 1666 = .ok (.invokevirtual 220, 3) := dk_182 0 220 (dk_at dksL_law_65 9 rfl rfl)
theorem dL_law_1669 : decode cL_law 1669 = .ok (.istore 7, 2) := dk_54 7 (dk_at dksL_law_65 12 rfl rfl)
theorem dL_law_1671 : decode cL_law 1671 = .ok (.aload_n 2, 1) := dk_44 (dk_at dksL_law_65 14 rfl rfl)
theorem dL_law_1672 : decode cL_law 1672 = .ok (.invokevirtual 138, 3) := dk_182 0 138 (dk_at dksL_law_65 15 rfl rfl)
theorem dL_law_1675 : decode cL_law 1675 = .ok (.iload 6, 2) := dk_21 6 (dk_at dksL_law_65 18 rfl rfl)
theorem dL_law_1677 : decode cL_law 1677 = .ok (.if_icmp .eq 5, 3) := dk_159 0 5 (dk_at dksL_law_65 20 rfl rfl)
theorem dL_law_1680 : decode cL_law 1680 = .ok (.iconst 0, 1) := dk_3 (dk_at dksL_law_65 23 rfl rfl)
theorem dL_law_1681 : decode cL_law 1681 = .ok (.ireturn, 1) := dk_172 (dk_at dksL_law_66 0 rfl rfl)
theorem dL_law_1682 : decode cL_law 1682 = .ok (.iload 6, 2) := dk_21 6 (dk_at dksL_law_66 1 rfl rfl)
theorem dL_law_1684 : decode cL_law 1684 = .ok (.ifCond .ne 15, 3) := dk_154 0 15 (dk_at dksL_law_66 3 rfl rfl)
theorem dL_law_1687 : decode cL_law 1687 = .ok (.aload_n 3, 1) := dk_45 (dk_at dksL_law_66 6 rfl rfl)
theorem dL_law_1688 : decode cL_law 1688 = .ok (.iconst 0, 1) := dk_3 (dk_at dksL_law_66 7 rfl rfl)
theorem dL_law_1689 : decode cL_law 1689 = .ok (.laload, 1) := dk_47 (dk_at dksL_law_66 8 rfl rfl)
theorem dL_law_1690 : decode cL_law 1690 = .ok (.iload 7, 2) := dk_21 7 (dk_at dksL_law_66 9 rfl rfl)
theorem dL_law_1692 : decode cL_law 1692 = .ok (.i2l, 1) := dk_133 (dk_at dksL_law_66 11 rfl rfl)
theorem dL_law_1693 : decode cL_law 1693 = .ok (.lcmp, 1) := dk_148 (dk_at dksL_law_66 12 rfl rfl)
theorem dL_law_1694 : decode cL_law 1694 = .ok (.ifCond .eq 5, 3) := dk_153 0 5 (dk_at dksL_law_66 13 rfl rfl)
theorem dL_law_1697 : decode cL_law 1697 = .ok (.iconst 0, 1) := dk_3 (dk_at dksL_law_66 16 rfl rfl)
theorem dL_law_1698 : decode cL_law 1698 = .ok (.ireturn, 1) := dk_172 (dk_at dksL_law_66 17 rfl rfl)
theorem dL_law_1699 : decode cL_law 1699 = .ok (.goto 566, 3) := dk_167 2 54 (dk_at dksL_law_66 18 rfl rfl)
theorem dL_law_1702 : decode cL_law 1702 = .ok (.aload_n 1, 1) := dk_43 (dk_at dksL_law_66 21 rfl rfl)
theorem dL_law_1703 : decode cL_law 1703 = .ok (.aload_n 0, 1) := dk_42 (dk_at dksL_law_66 22 rfl rfl)
theorem dL_law_1704 : decode cL_law 1704 = .ok (.iload 5, 2) := dk_21 5 (dk_at dksL_law_67 0 rfl rfl)
theorem dL_law_1706 : decode cL_law 1706 = .ok (.iconst 1, 1) := dk_4 (dk_at dksL_law_67 2 rfl rfl)
theorem dL_law_1707 : decode cL_law 1707 = .ok (.iadd, 1) := dk_96 (dk_at dksL_law_67 3 rfl rfl)
theorem dL_law_1708 : decode cL_law 1708 = .ok (.iaload, 1) := dk_46 (dk_at dksL_law_67 4 rfl rfl)
theorem dL_law_1709 : decode cL_law 1709 = .ok (.aload_n 3, 1) := dk_45 (dk_at dksL_law_67 5 rfl rfl)
theorem dL_law_1710 : decode cL_law 1710 = .ok (.invokestatic 221, 3) := dk_184 0 221 (dk_at dksL_law_67 6 rfl rfl)
theorem dL_law_1713 : decode cL_law 1713 = .ok (.istore 6, 2) := dk_54 6 (dk_at dksL_law_67 9 rfl rfl)
theorem dL_law_1715 : decode cL_law 1715 = .ok (.aload_n 2, 1) := dk_44 (dk_at dksL_law_67 11 rfl rfl)
theorem dL_law_1716 : decode cL_law 1716 = .ok (.aload_n 0, 1) := dk_42 (dk_at dksL_law_67 12 rfl rfl)
theorem dL_law_1717 : decode cL_law 1717 = .ok (.iload 5, 2) := dk_21 5 (dk_at dksL_law_67 13 rfl rfl)
theorem dL_law_1719 : decode cL_law 1719 = .ok (.iconst 1, 1) := dk_4 (dk_at dksL_law_67 15 rfl rfl)
theorem dL_law_1720 : decode cL_law 1720 = .ok (.iadd, 1) := dk_96 (dk_at dksL_law_67 16 rfl rfl)
theorem dL_law_1721 : decode cL_law 1721 = .ok (.iaload, 1) := dk_46 (dk_at dksL_law_67 17 rfl rfl)
theorem dL_law_1722 : decode cL_law 1722 = .ok (.invokevirtual 223, 3) := dk_182 0 223 (dk_at dksL_law_67 18 rfl rfl)
theorem dL_law_1725 : decode cL_law 1725 = .ok (.istore 7, 2) := dk_54 7 (dk_at dksL_law_67 21 rfl rfl)
theorem dL_law_1727 : decode cL_law 1727 = .ok (.aload_n 2, 1) := dk_44 (dk_at dksL_law_67 23 rfl rfl)
theorem dL_law_1728 : decode cL_law 1728 = .ok (.invokevirtual 138, 3) := dk_182 0 138 (dk_at dksL_law_68 0 rfl rfl)
theorem dL_law_1731 : decode cL_law 1731 = .ok (.iload 6, 2) := dk_21 6 (dk_at dksL_law_68 3 rfl rfl)
theorem dL_law_1733 : decode cL_law 1733 = .ok (.if_icmp .eq 5, 3) := dk_159 0 5 (dk_at dksL_law_68 5 rfl rfl)
theorem dL_law_1736 : decode cL_law 1736 = .ok (.iconst 0, 1) := dk_3 (dk_at dksL_law_68 8 rfl rfl)
theorem dL_law_1737 : decode cL_law 1737 = .ok (.ireturn, 1) := dk_172 (dk_at dksL_law_68 9 rfl rfl)
theorem dL_law_1738 : decode cL_law 1738 = .ok (.iload 6, 2) := dk_21 6 (dk_at dksL_law_68 10 rfl rfl)
theorem dL_law_1740 : decode cL_law 1740 = .ok (.ifCond .ne 15, 3) := dk_154 0 15 (dk_at dksL_law_68 12 rfl rfl)
theorem dL_law_1743 : decode cL_law 1743 = .ok (.aload_n 3, 1) := dk_45 (dk_at dksL_law_68 15 rfl rfl)
theorem dL_law_1744 : decode cL_law 1744 = .ok (.iconst 0, 1) := dk_3 (dk_at dksL_law_68 16 rfl rfl)
theorem dL_law_1745 : decode cL_law 1745 = .ok (.laload, 1) := dk_47 (dk_at dksL_law_68 17 rfl rfl)
theorem dL_law_1746 : decode cL_law 1746 = .ok (.iload 7, 2) := dk_21 7 (dk_at dksL_law_68 18 rfl rfl)
theorem dL_law_1748 : decode cL_law 1748 = .ok (.i2l, 1) := dk_133 (dk_at dksL_law_68 20 rfl rfl)
theorem dL_law_1749 : decode cL_law 1749 = .ok (.lcmp, 1) := dk_148 (dk_at dksL_law_68 21 rfl rfl)
theorem dL_law_1750 : decode cL_law 1750 = .ok (.ifCond .eq 5, 3) := dk_153 0 5 (dk_at dksL_law_69 0 rfl rfl)
theorem dL_law_1753 : decode cL_law 1753 = .ok (.iconst 0, 1) := dk_3 (dk_at dksL_law_69 3 rfl rfl)
theorem dL_law_1754 : decode cL_law 1754 = .ok (.ireturn, 1) := dk_172 (dk_at dksL_law_69 4 rfl rfl)
theorem dL_law_1755 : decode cL_law 1755 = .ok (.goto 510, 3) := dk_167 1 254 (dk_at dksL_law_69 5 rfl rfl)
theorem dL_law_1758 : decode cL_law 1758 = .ok (.aload_n 1, 1) := dk_43 (dk_at dksL_law_69 8 rfl rfl)
theorem dL_law_1759 : decode cL_law 1759 = .ok (.aload_n 0, 1) := dk_42 (dk_at dksL_law_69 9 rfl rfl)
theorem dL_law_1760 : decode cL_law 1760 = .ok (.iload 5, 2) := dk_21 5 (dk_at dksL_law_69 10 rfl rfl)
theorem dL_law_1762 : decode cL_law 1762 = .ok (.iconst 1, 1) := dk_4 (dk_at dksL_law_69 12 rfl rfl)
theorem dL_law_1763 : decode cL_law 1763 = .ok (.iadd, 1) := dk_96 (dk_at dksL_law_69 13 rfl rfl)
theorem dL_law_1764 : decode cL_law 1764 = .ok (.iaload, 1) := dk_46 (dk_at dksL_law_69 14 rfl rfl)
theorem dL_law_1765 : decode cL_law 1765 = .ok (.aload_n 3, 1) := dk_45 (dk_at dksL_law_69 15 rfl rfl)
theorem dL_law_1766 : decode cL_law 1766 = .ok (.invokestatic 224, 3) := dk_184 0 224 (dk_at dksL_law_69 16 rfl rfl)
theorem dL_law_1769 : decode cL_law 1769 = .ok (.istore 6, 2) := dk_54 6 (dk_at dksL_law_69 19 rfl rfl)
theorem dL_law_1771 : decode cL_law 1771 = .ok (.aload_n 2, 1) := dk_44 (dk_at dksL_law_69 21 rfl rfl)
theorem dL_law_1772 : decode cL_law 1772 = .ok (.aload_n 0, 1) := dk_42 (dk_at dksL_law_69 22 rfl rfl)
theorem dL_law_1773 : decode cL_law 1773 = .ok (.iload 5, 2) := dk_21 5 (dk_at dksL_law_70 0 rfl rfl)
theorem dL_law_1775 : decode cL_law 1775 = .ok (.iconst 1, 1) := dk_4 (dk_at dksL_law_70 2 rfl rfl)
theorem dL_law_1776 : decode cL_law 1776 = .ok (.iadd, 1) := dk_96 (dk_at dksL_law_70 3 rfl rfl)
theorem dL_law_1777 : decode cL_law 1777 = .ok (.iaload, 1) := dk_46 (dk_at dksL_law_70 4 rfl rfl)
theorem dL_law_1778 : decode cL_law 1778 = .ok (.invokevirtual 226, 3) := dk_182 0 226 (dk_at dksL_law_70 5 rfl rfl)
theorem dL_law_1781 : decode cL_law 1781 = .ok (.istore 7, 2) := dk_54 7 (dk_at dksL_law_70 8 rfl rfl)
theorem dL_law_1783 : decode cL_law 1783 = .ok (.aload_n 2, 1) := dk_44 (dk_at dksL_law_70 10 rfl rfl)
theorem dL_law_1784 : decode cL_law 1784 = .ok (.invokevirtual 138, 3) := dk_182 0 138 (dk_at dksL_law_70 11 rfl rfl)
theorem dL_law_1787 : decode cL_law 1787 = .ok (.iload 6, 2) := dk_21 6 (dk_at dksL_law_70 14 rfl rfl)
theorem dL_law_1789 : decode cL_law 1789 = .ok (.if_icmp .eq 5, 3) := dk_159 0 5 (dk_at dksL_law_70 16 rfl rfl)
theorem dL_law_1792 : decode cL_law 1792 = .ok (.iconst 0, 1) := dk_3 (dk_at dksL_law_70 19 rfl rfl)
theorem dL_law_1793 : decode cL_law 1793 = .ok (.ireturn, 1) := dk_172 (dk_at dksL_law_70 20 rfl rfl)
theorem dL_law_1794 : decode cL_law 1794 = .ok (.iload 6, 2) := dk_21 6 (dk_at dksL_law_70 21 rfl rfl)
theorem dL_law_1796 : decode cL_law 1796 = .ok (.ifCond .ne 15, 3) := dk_154 0 15 (dk_at dksL_law_71 0 rfl rfl)
theorem dL_law_1799 : decode cL_law 1799 = .ok (.aload_n 3, 1) := dk_45 (dk_at dksL_law_71 3 rfl rfl)
theorem dL_law_1800 : decode cL_law 1800 = .ok (.iconst 0, 1) := dk_3 (dk_at dksL_law_71 4 rfl rfl)
theorem dL_law_1801 : decode cL_law 1801 = .ok (.laload, 1) := dk_47 (dk_at dksL_law_71 5 rfl rfl)
theorem dL_law_1802 : decode cL_law 1802 = .ok (.iload 7, 2) := dk_21 7 (dk_at dksL_law_71 6 rfl rfl)
theorem dL_law_1804 : decode cL_law 1804 = .ok (.i2l, 1) := dk_133 (dk_at dksL_law_71 8 rfl rfl)
theorem dL_law_1805 : decode cL_law 1805 = .ok (.lcmp, 1) := dk_148 (dk_at dksL_law_71 9 rfl rfl)
theorem dL_law_1806 : decode cL_law 1806 = .ok (.ifCond .eq 5, 3) := dk_153 0 5 (dk_at dksL_law_71 10 rfl rfl)
theorem dL_law_1809 : decode cL_law 1809 = .ok (.iconst 0, 1) := dk_3 (dk_at dksL_law_71 13 rfl rfl)
theorem dL_law_1810 : decode cL_law 1810 = .ok (.ireturn, 1) := dk_172 (dk_at dksL_law_71 14 rfl rfl)
theorem dL_law_1811 : decode cL_law 1811 = .ok (.goto 454, 3) := dk_167 1 198 (dk_at dksL_law_71 15 rfl rfl)
theorem dL_law_1814 : decode cL_law 1814 = .ok (.aload_n 1, 1) := dk_43 (dk_at dksL_law_71 18 rfl rfl)
theorem dL_law_1815 : decode cL_law 1815 = .ok (.invokevirtual 227, 3) := dk_182 0 227 (dk_at dksL_law_71 19 rfl rfl)
theorem dL_law_1818 : decode cL_law 1818 = .ok (.aload_n 2, 1) := dk_44 (dk_at dksL_law_71 22 rfl rfl)
theorem dL_law_1819 : decode cL_law 1819 = .ok (.invokevirtual 230, 3) := dk_182 0 230 (dk_at dksL_law_72 0 rfl rfl)
theorem dL_law_1822 : decode cL_law 1822 = .ok (.if_icmp .eq 443, 3) := dk_159 1 187 (dk_at dksL_law_72 3 rfl rfl)
theorem dL_law_1825 : decode cL_law 1825 = .ok (.iconst 0, 1) := dk_3 (dk_at dksL_law_72 6 rfl rfl)
theorem dL_law_1826 : decode cL_law 1826 = .ok (.ireturn, 1) := dk_172 (dk_at dksL_law_72 7 rfl rfl)
theorem dL_law_1827 : decode cL_law 1827 = .ok (.aload_n 1, 1) := dk_43 (dk_at dksL_law_72 8 rfl rfl)
theorem dL_law_1828 : decode cL_law 1828 = .ok (.invokevirtual 231, 3) := dk_182 0 231 (dk_at dksL_law_72 9 rfl rfl)
theorem dL_law_1831 : decode cL_law 1831 = .ok (.dstore 6, 2) := dk_57 6 (dk_at dksL_law_72 12 rfl rfl)
theorem dL_law_1833 : decode cL_law 1833 = .ok (.aload_n 2, 1) := dk_44 (dk_at dksL_law_72 14 rfl rfl)
theorem dL_law_1834 : decode cL_law 1834 = .ok (.invokevirtual 235, 3) := dk_182 0 235 (dk_at dksL_law_72 15 rfl rfl)
theorem dL_law_1837 : decode cL_law 1837 = .ok (.dstore 8, 2) := dk_57 8 (dk_at dksL_law_72 18 rfl rfl)
theorem dL_law_1839 : decode cL_law 1839 = .ok (.dload 6, 2) := dk_24 6 (dk_at dksL_law_72 20 rfl rfl)
theorem dL_law_1841 : decode cL_law 1841 = .ok (.dload 8, 2) := dk_24 8 (dk_at dksL_law_72 22 rfl rfl)
theorem dL_law_1843 : decode cL_law 1843 = .ok (.dcmp .l, 1) := dk_151 (dk_at dksL_law_73 0 rfl rfl)
theorem dL_law_1844 : decode cL_law 1844 = .ok (.ifCond .eq 21, 3) := dk_153 0 21 (dk_at dksL_law_73 1 rfl rfl)
theorem dL_law_1847 : decode cL_law 1847 = .ok (.dload 6, 2) := dk_24 6 (dk_at dksL_law_73 4 rfl rfl)
theorem dL_law_1849 : decode cL_law 1849 = .ok (.dload 6, 2) := dk_24 6 (dk_at dksL_law_73 6 rfl rfl)
theorem dL_law_1851 : decode cL_law 1851 = .ok (.dcmp .l, 1) := dk_151 (dk_at dksL_law_73 8 rfl rfl)
theorem dL_law_1852 : decode cL_law 1852 = .ok (.ifCond .eq 11, 3) := dk_153 0 11 (dk_at dksL_law_73 9 rfl rfl)
theorem dL_law_1855 : decode cL_law 1855 = .ok (.dload 8, 2) := dk_24 8 (dk_at dksL_law_73 12 rfl rfl)
theorem dL_law_1857 : decode cL_law 1857 = .ok (.dload 8, 2) := dk_24 8 (dk_at dksL_law_73 14 rfl rfl)
theorem dL_law_1859 : decode cL_law 1859 = .ok (.dcmp .l, 1) := dk_151 (dk_at dksL_law_73 16 rfl rfl)
theorem dL_law_1860 : decode cL_law 1860 = .ok (.ifCond .ne 5, 3) := dk_154 0 5 (dk_at dksL_law_73 17 rfl rfl)
theorem dL_law_1863 : decode cL_law 1863 = .ok (.iconst 0, 1) := dk_3 (dk_at dksL_law_73 20 rfl rfl)
theorem dL_law_1864 : decode cL_law 1864 = .ok (.ireturn, 1) := dk_172 (dk_at dksL_law_73 21 rfl rfl)
theorem dL_law_1865 : decode cL_law 1865 = .ok (.goto 400, 3) := dk_167 1 144 (dk_at dksL_law_74 0 rfl rfl)
theorem dL_law_1868 : decode cL_law 1868 = .ok (.aload_n 1, 1) := dk_43 (dk_at dksL_law_74 3 rfl rfl)
theorem dL_law_1869 : decode cL_law 1869 = .ok (.aload 4, 2) := dk_25 4 (dk_at dksL_law_74 4 rfl rfl)
theorem dL_law_1871 : decode cL_law 1871 = .ok (.invokestatic 236, 3) := dk_184 0 236 (dk_at dksL_law_74 6 rfl rfl)
theorem dL_law_1874 : decode cL_law 1874 = .ok (.istore 6, 2) := dk_54 6 (dk_at dksL_law_74 9 rfl rfl)
theorem dL_law_1876 : decode cL_law 1876 = .ok (.aload_n 2, 1) := dk_44 (dk_at dksL_law_74 11 rfl rfl)
theorem dL_law_1877 : decode cL_law 1877 = .ok (.invokevirtual 239, 3) := dk_182 0 239 (dk_at dksL_law_74 12 rfl rfl)
theorem dL_law_1880 : decode cL_law 1880 = .ok (.fstore 7, 2) := dk_56 7 (dk_at dksL_law_74 15 rfl rfl)
theorem dL_law_1882 : decode cL_law 1882 = .ok (.aload_n 2, 1) := dk_44 (dk_at dksL_law_74 17 rfl rfl)
theorem dL_law_1883 : decode cL_law 1883 = .ok (.invokevirtual 138, 3) := dk_182 0 138 (dk_at dksL_law_74 18 rfl rfl)
theorem dL_law_1886 : decode cL_law 1886 = .ok (.iload 6, 2) := dk_21 6 (dk_at dksL_law_74 21 rfl rfl)
theorem dL_law_1888 : decode cL_law 1888 = .ok (.if_icmp .eq 5, 3) := dk_159 0 5 (dk_at dksL_law_75 0 rfl rfl)
theorem dL_law_1891 : decode cL_law 1891 = .ok (.iconst 0, 1) := dk_3 (dk_at dksL_law_75 3 rfl rfl)
theorem dL_law_1892 : decode cL_law 1892 = .ok (.ireturn, 1) := dk_172 (dk_at dksL_law_75 4 rfl rfl)
theorem dL_law_1893 : decode cL_law 1893 = .ok (.iload 6, 2) := dk_21 6 (dk_at dksL_law_75 5 rfl rfl)
theorem dL_law_1895 : decode cL_law 1895 = .ok (.ifCond .ne 36, 3) := dk_154 0 36 (dk_at dksL_law_75 7 rfl rfl)
theorem dL_law_1898 : decode cL_law 1898 = .ok (.aload 4, 2) := dk_25 4 (dk_at dksL_law_75 10 rfl rfl)
theorem dL_law_1900 : decode cL_law 1900 = .ok (.iconst 0, 1) := dk_3 (dk_at dksL_law_75 12 rfl rfl)
theorem dL_law_1901 : decode cL_law 1901 = .ok (.daload, 1) := dk_49 (dk_at dksL_law_75 13 rfl rfl)
theorem dL_law_1902 : decode cL_law 1902 = .ok (.fload 7, 2) := dk_23 7 (dk_at dksL_law_75 14 rfl rfl)
theorem dL_law_1904 : decode cL_law 1904 = .ok (.f2d, 1) := dk_141 (dk_at dksL_law_75 16 rfl rfl)
theorem dL_law_1905 : decode cL_law 1905 = .ok (.dcmp .l, 1) := dk_151 (dk_at dksL_law_75 17 rfl rfl)
theorem dL_law_1906 : decode cL_law 1906 = .ok (.ifCond .eq 25, 3) := dk_153 0 25 (dk_at dksL_law_75 18 rfl rfl)
theorem dL_law_1909 : decode cL_law 1909 = .ok (.aload 4, 2) := dk_25 4 (dk_at dksL_law_75 21 rfl rfl)
theorem dL_law_1911 : decode cL_law 1911 = .ok (.iconst 0, 1) := dk_3 (dk_at dksL_law_75 23 rfl rfl)
theorem dL_law_1912 : decode cL_law 1912 = .ok (.daload, 1) := dk_49 (dk_at dksL_law_76 0 rfl rfl)
theorem dL_law_1913 : decode cL_law 1913 = .ok (.aload 4, 2) := dk_25 4 (dk_at dksL_law_76 1 rfl rfl)
theorem dL_law_1915 : decode cL_law 1915 = .ok (.iconst 0, 1) := dk_3 (dk_at dksL_law_76 3 rfl rfl)
theorem dL_law_1916 : decode cL_law 1916 = .ok (.daload, 1) := dk_49 (dk_at dksL_law_76 4 rfl rfl)
theorem dL_law_1917 : decode cL_law 1917 = .ok (.dcmp .l, 1) := dk_151 (dk_at dksL_law_76 5 rfl rfl)
theorem dL_law_1918 : decode cL_law 1918 = .ok (.ifCond .eq 11, 3) := dk_153 0 11 (dk_at dksL_law_76 6 rfl rfl)
theorem dL_law_1921 : decode cL_law 1921 = .ok (.fload 7, 2) := dk_23 7 (dk_at dksL_law_76 9 rfl rfl)
theorem dL_law_1923 : decode cL_law 1923 = .ok (.fload 7, 2) := dk_23 7 (dk_at dksL_law_76 11 rfl rfl)
theorem dL_law_1925 : decode cL_law 1925 = .ok (.fcmp .l, 1) := dk_149 (dk_at dksL_law_76 13 rfl rfl)
theorem dL_law_1926 : decode cL_law 1926 = .ok (.ifCond .ne 5, 3) := dk_154 0 5 (dk_at dksL_law_76 14 rfl rfl)
theorem dL_law_1929 : decode cL_law 1929 = .ok (.iconst 0, 1) := dk_3 (dk_at dksL_law_76 17 rfl rfl)
theorem dL_law_1930 : decode cL_law 1930 = .ok (.ireturn, 1) := dk_172 (dk_at dksL_law_76 18 rfl rfl)
theorem dL_law_1931 : decode cL_law 1931 = .ok (.goto 334, 3) := dk_167 1 78 (dk_at dksL_law_76 19 rfl rfl)
theorem dL_law_1934 : decode cL_law 1934 = .ok (.aload_n 1, 1) := dk_43 (dk_at dksL_law_76 22 rfl rfl)
theorem dL_law_1935 : decode cL_law 1935 = .ok (.aload_n 0, 1) := dk_42 (dk_at dksL_law_76 23 rfl rfl)
theorem dL_law_1936 : decode cL_law 1936 = .ok (.iload 5, 2) := dk_21 5 (dk_at dksL_law_77 0 rfl rfl)
theorem dL_law_1938 : decode cL_law 1938 = .ok (.iconst 1, 1) := dk_4 (dk_at dksL_law_77 2 rfl rfl)
theorem dL_law_1939 : decode cL_law 1939 = .ok (.iadd, 1) := dk_96 (dk_at dksL_law_77 3 rfl rfl)
theorem dL_law_1940 : decode cL_law 1940 = .ok (.iaload, 1) := dk_46 (dk_at dksL_law_77 4 rfl rfl)
theorem dL_law_1941 : decode cL_law 1941 = .ok (.i2c, 1) := dk_146 (dk_at dksL_law_77 5 rfl rfl)
theorem dL_law_1942 : decode cL_law 1942 = .ok (.aload_n 3, 1) := dk_45 (dk_at dksL_law_77 6 rfl rfl)
theorem dL_law_1943 : decode cL_law 1943 = .ok (.invokestatic 240, 3) := dk_184 0 240 (dk_at dksL_law_77 7 rfl rfl)
theorem dL_law_1946 : decode cL_law 1946 = .ok (.istore 6, 2) := dk_54 6 (dk_at dksL_law_77 10 rfl rfl)
theorem dL_law_1948 : decode cL_law 1948 = .ok (.aload_n 2, 1) := dk_44 (dk_at dksL_law_77 12 rfl rfl)
theorem dL_law_1949 : decode cL_law 1949 = .ok (.aload_n 0, 1) := dk_42 (dk_at dksL_law_77 13 rfl rfl)
theorem dL_law_1950 : decode cL_law 1950 = .ok (.iload 5, 2) := dk_21 5 (dk_at dksL_law_77 14 rfl rfl)
theorem dL_law_1952 : decode cL_law 1952 = .ok (.iconst 1, 1) := dk_4 (dk_at dksL_law_77 16 rfl rfl)
theorem dL_law_1953 : decode cL_law 1953 = .ok (.iadd, 1) := dk_96 (dk_at dksL_law_77 17 rfl rfl)
theorem dL_law_1954 : decode cL_law 1954 = .ok (.iaload, 1) := dk_46 (dk_at dksL_law_77 18 rfl rfl)
theorem dL_law_1955 : decode cL_law 1955 = .ok (.i2c, 1) := dk_146 (dk_at dksL_law_77 19 rfl rfl)
theorem dL_law_1956 : decode cL_law 1956 = .ok (.invokevirtual 243, 3) := dk_182 0 243 (dk_at dksL_law_77 20 rfl rfl)
theorem dL_law_1959 : decode cL_law 1959 = .ok (.istore 7, 2) := dk_54 7 (dk_at dksL_law_78 0 rfl rfl)
theorem dL_law_1961 : decode cL_law 1961 = .ok (.aload_n 2, 1) := dk_44 (dk_at dksL_law_78 2 rfl rfl)
theorem dL_law_1962 : decode cL_law 1962 = .ok (.invokevirtual 138, 3) := dk_182 0 138 (dk_at dksL_law_78 3 rfl rfl)
theorem dL_law_1965 : decode cL_law 1965 = .ok (.iload 6, 2) := dk_21 6 (dk_at dksL_law_78 6 rfl rfl)
theorem dL_law_1967 : decode cL_law 1967 = .ok (.if_icmp .eq 5, 3) := dk_159 0 5 (dk_at dksL_law_78 8 rfl rfl)
theorem dL_law_1970 : decode cL_law 1970 = .ok (.iconst 0, 1) := dk_3 (dk_at dksL_law_78 11 rfl rfl)
theorem dL_law_1971 : decode cL_law 1971 = .ok (.ireturn, 1) := dk_172 (dk_at dksL_law_78 12 rfl rfl)
theorem dL_law_1972 : decode cL_law 1972 = .ok (.iload 6, 2) := dk_21 6 (dk_at dksL_law_78 13 rfl rfl)
theorem dL_law_1974 : decode cL_law 1974 = .ok (.ifCond .ne 15, 3) := dk_154 0 15 (dk_at dksL_law_78 15 rfl rfl)
theorem dL_law_1977 : decode cL_law 1977 = .ok (.aload_n 3, 1) := dk_45 (dk_at dksL_law_78 18 rfl rfl)
theorem dL_law_1978 : decode cL_law 1978 = .ok (.iconst 0, 1) := dk_3 (dk_at dksL_law_78 19 rfl rfl)
theorem dL_law_1979 : decode cL_law 1979 = .ok (.laload, 1) := dk_47 (dk_at dksL_law_78 20 rfl rfl)
theorem dL_law_1980 : decode cL_law 1980 = .ok (.iload 7, 2) := dk_21 7 (dk_at dksL_law_78 21 rfl rfl)
theorem dL_law_1982 : decode cL_law 1982 = .ok (.i2l, 1) := dk_133 (dk_at dksL_law_78 23 rfl rfl)
theorem dL_law_1983 : decode cL_law 1983 = .ok (.lcmp, 1) := dk_148 (dk_at dksL_law_79 0 rfl rfl)
theorem dL_law_1984 : decode cL_law 1984 = .ok (.ifCond .eq 5, 3) := dk_153 0 5 (dk_at dksL_law_79 1 rfl rfl)
theorem dL_law_1987 : decode cL_law 1987 = .ok (.iconst 0, 1) := dk_3 (dk_at dksL_law_79 4 rfl rfl)
theorem dL_law_1988 : decode cL_law 1988 = .ok (.ireturn, 1) := dk_172 (dk_at dksL_law_79 5 rfl rfl)
theorem dL_law_1989 : decode cL_law 1989 = .ok (.goto 276, 3) := dk_167 1 20 (dk_at dksL_law_79 6 rfl rfl)
theorem dL_law_1992 : decode cL_law 1992 = .ok (.aload_n 1, 1) := dk_43 (dk_at dksL_law_79 9 rfl rfl)
theorem dL_law_1993 : decode cL_law 1993 = .ok (.aload_n 3, 1) := dk_45 (dk_at dksL_law_79 10 rfl rfl)
theorem dL_law_1994 : decode cL_law 1994 = .ok (.invokestatic 244, 3) := dk_184 0 244 (dk_at dksL_law_79 11 rfl rfl)
theorem dL_law_1997 : decode cL_law 1997 = .ok (.istore 6, 2) := dk_54 6 (dk_at dksL_law_79 14 rfl rfl)
theorem dL_law_1999 : decode cL_law 1999 = .ok (.aload_n 2, 1) := dk_44 (dk_at dksL_law_79 16 rfl rfl)
theorem dL_law_2000 : decode cL_law 2000 = .ok (.invokevirtual 246, 3) := dk_182 0 246 (dk_at dksL_law_79 17 rfl rfl)
theorem dL_law_2003 : decode cL_law 2003 = .ok (.istore 7, 2) := dk_54 7 (dk_at dksL_law_79 20 rfl rfl)
theorem dL_law_2005 : decode cL_law 2005 = .ok (.aload_n 2, 1) := dk_44 (dk_at dksL_law_79 22 rfl rfl)
theorem dL_law_2006 : decode cL_law 2006 = .ok (.invokevirtual 138, 3) := dk_182 0 138 (dk_at dksL_law_80 0 rfl rfl)
theorem dL_law_2009 : decode cL_law 2009 = .ok (.iload 6, 2) := dk_21 6 (dk_at dksL_law_80 3 rfl rfl)
theorem dL_law_2011 : decode cL_law 2011 = .ok (.if_icmp .eq 5, 3) := dk_159 0 5 (dk_at dksL_law_80 5 rfl rfl)
theorem dL_law_2014 : decode cL_law 2014 = .ok (.iconst 0, 1) := dk_3 (dk_at dksL_law_80 8 rfl rfl)
theorem dL_law_2015 : decode cL_law 2015 = .ok (.ireturn, 1) := dk_172 (dk_at dksL_law_80 9 rfl rfl)
theorem dL_law_2016 : decode cL_law 2016 = .ok (.iload 6, 2) := dk_21 6 (dk_at dksL_law_80 10 rfl rfl)
theorem dL_law_2018 : decode cL_law 2018 = .ok (.ifCond .ne 15, 3) := dk_154 0 15 (dk_at dksL_law_80 12 rfl rfl)
theorem dL_law_2021 : decode cL_law 2021 = .ok (.aload_n 3, 1) := dk_45 (dk_at dksL_law_80 15 rfl rfl)
theorem dL_law_2022 : decode cL_law 2022 = .ok (.iconst 0, 1) := dk_3 (dk_at dksL_law_80 16 rfl rfl)
theorem dL_law_2023 : decode cL_law 2023 = .ok (.laload, 1) := dk_47 (dk_at dksL_law_80 17 rfl rfl)
theorem dL_law_2024 : decode cL_law 2024 = .ok (.iload 7, 2) := dk_21 7 (dk_at dksL_law_80 18 rfl rfl)
theorem dL_law_2026 : decode cL_law 2026 = .ok (.i2l, 1) := dk_133 (dk_at dksL_law_80 20 rfl rfl)
theorem dL_law_2027 : decode cL_law 2027 = .ok (.lcmp, 1) := dk_148 (dk_at dksL_law_80 21 rfl rfl)
theorem dL_law_2028 : decode cL_law 2028 = .ok (.ifCond .eq 5, 3) := dk_153 0 5 (dk_at dksL_law_81 0 rfl rfl)
theorem dL_law_2031 : decode cL_law 2031 = .ok (.iconst 0, 1) := dk_3 (dk_at dksL_law_81 3 rfl rfl)
theorem dL_law_2032 : decode cL_law 2032 = .ok (.ireturn, 1) := dk_172 (dk_at dksL_law_81 4 rfl rfl)
theorem dL_law_2033 : decode cL_law 2033 = .ok (.goto 232, 3) := dk_167 0 232 (dk_at dksL_law_81 5 rfl rfl)
theorem dL_law_2036 : decode cL_law 2036 = .ok (.aload_n 1, 1) := dk_43 (dk_at dksL_law_81 8 rfl rfl)
theorem dL_law_2037 : decode cL_law 2037 = .ok (.aload_n 3, 1) := dk_45 (dk_at dksL_law_81 9 rfl rfl)
theorem dL_law_2038 : decode cL_law 2038 = .ok (.invokestatic 247, 3) := dk_184 0 247 (dk_at dksL_law_81 10 rfl rfl)
theorem dL_law_2041 : decode cL_law 2041 = .ok (.istore 6, 2) := dk_54 6 (dk_at dksL_law_81 13 rfl rfl)
theorem dL_law_2043 : decode cL_law 2043 = .ok (.aload_n 2, 1) := dk_44 (dk_at dksL_law_81 15 rfl rfl)
theorem dL_law_2044 : decode cL_law 2044 = .ok (.invokevirtual 249, 3) := dk_182 0 249 (dk_at dksL_law_81 16 rfl rfl)
theorem dL_law_2047 : decode cL_law 2047 = .ok (.istore 7, 2) := dk_54 7 (dk_at dksL_law_81 19 rfl rfl)
theorem dL_law_2049 : decode cL_law 2049 = .ok (.aload_n 2, 1) := dk_44 (dk_at dksL_law_81 21 rfl rfl)
theorem dL_law_2050 : decode cL_law 2050 = .ok (.invokevirtual 138, 3) := dk_182 0 138 (dk_at dksL_law_82 0 rfl rfl)
theorem dL_law_2053 : decode cL_law 2053 = .ok (.iload 6, 2) := dk_21 6 (dk_at dksL_law_82 3 rfl rfl)
theorem dL_law_2055 : decode cL_law 2055 = .ok (.if_icmp .eq 5, 3) := dk_159 0 5 (dk_at dksL_law_82 5 rfl rfl)
theorem dL_law_2058 : decode cL_law 2058 = .ok (.iconst 0, 1) := dk_3 (dk_at dksL_law_82 8 rfl rfl)
theorem dL_law_2059 : decode cL_law 2059 = .ok (.ireturn, 1) := dk_172 (dk_at dksL_law_82 9 rfl rfl)
theorem dL_law_2060 : decode cL_law 2060 = .ok (.iload 6, 2) := dk_21 6 (dk_at dksL_law_82 10 rfl rfl)
theorem dL_law_2062 : decode cL_law 2062 = .ok (.ifCond .ne 15, 3) := dk_154 0 15 (dk_at dksL_law_82 12 rfl rfl)
theorem dL_law_2065 : decode cL_law 2065 = .ok (.aload_n 3, 1) := dk_45 (dk_at dksL_law_82 15 rfl rfl)
theorem dL_law_2066 : decode cL_law 2066 = .ok (.iconst 0, 1) := dk_3 (dk_at dksL_law_82 16 rfl rfl)
theorem dL_law_2067 : decode cL_law 2067 = .ok (.laload, 1) := dk_47 (dk_at dksL_law_82 17 rfl rfl)
theorem dL_law_2068 : decode cL_law 2068 = .ok (.iload 7, 2) := dk_21 7 (dk_at dksL_law_82 18 rfl rfl)
theorem dL_law_2070 : decode cL_law 2070 = .ok (.i2l, 1) := dk_133 (dk_at dksL_law_82 20 rfl rfl)
theorem dL_law_2071 : decode cL_law 2071 = .ok (.lcmp, 1) := dk_148 (dk_at dksL_law_82 21 rfl rfl)
theorem dL_law_2072 : decode cL_law 2072 = .ok (.ifCond .eq 5, 3) := dk_153 0 5 (dk_at dksL_law_83 0 rfl rfl)
theorem dL_law_2075 : decode cL_law 2075 = .ok (.iconst 0, 1) := dk_3 (dk_at dksL_law_83 3 rfl rfl)
theorem dL_law_2076 : decode cL_law 2076 = .ok (.ireturn, 1) := dk_172 (dk_at dksL_law_83 4 rfl rfl)
theorem dL_law_2077 : decode cL_law 2077 = .ok (.goto 188, 3) := dk_167 0 188 (dk_at dksL_law_83 5 rfl rfl)
theorem dL_law_2080 : decode cL_law 2080 = .ok (.aload_n 1, 1) := dk_43 (dk_at dksL_law_83 8 rfl rfl)
theorem dL_law_2081 : decode cL_law 2081 = .ok (.aload_n 0, 1) := dk_42 (dk_at dksL_law_83 9 rfl rfl)
theorem dL_law_2082 : decode cL_law 2082 = .ok (.iload 5, 2) := dk_21 5 (dk_at dksL_law_83 10 rfl rfl)
theorem dL_law_2084 : decode cL_law 2084 = .ok (.iconst 1, 1) := dk_4 (dk_at dksL_law_83 12 rfl rfl)
theorem dL_law_2085 : decode cL_law 2085 = .ok (.iadd, 1) := dk_96 (dk_at dksL_law_83 13 rfl rfl)
theorem dL_law_2086 : decode cL_law 2086 = .ok (.iaload, 1) := dk_46 (dk_at dksL_law_83 14 rfl rfl)
theorem dL_law_2087 : decode cL_law 2087 = .ok (.aload_n 0, 1) := dk_42 (dk_at dksL_law_83 15 rfl rfl)
theorem dL_law_2088 : decode cL_law 2088 = .ok (.iload 5, 2) := dk_21 5 (dk_at dksL_law_83 16 rfl rfl)
theorem dL_law_2090 : decode cL_law 2090 = .ok (.iconst 2, 1) := dk_5 (dk_at dksL_law_83 18 rfl rfl)
theorem dL_law_2091 : decode cL_law 2091 = .ok (.iadd, 1) := dk_96 (dk_at dksL_law_83 19 rfl rfl)
theorem dL_law_2092 : decode cL_law 2092 = .ok (.iaload, 1) := dk_46 (dk_at dksL_law_83 20 rfl rfl)
theorem dL_law_2093 : decode cL_law 2093 = .ok (.ifCond .eq 7, 3) := dk_153 0 7 (dk_at dksL_law_83 21 rfl rfl)
theorem dL_law_2096 : decode cL_law 2096 = .ok (.iconst 1, 1) := dk_4 (dk_at dksL_law_84 0 rfl rfl)
theorem dL_law_2097 : decode cL_law 2097 = .ok (.goto 4, 3) := dk_167 0 4 (dk_at dksL_law_84 1 rfl rfl)
theorem dL_law_2100 : decode cL_law 2100 = .ok (.iconst 0, 1) := dk_3 (dk_at dksL_law_84 4 rfl rfl)
theorem dL_law_2101 : decode cL_law 2101 = .ok (.aload_n 3, 1) := dk_45 (dk_at dksL_law_84 5 rfl rfl)
theorem dL_law_2102 : decode cL_law 2102 = .ok (.invokestatic 250, 3) := dk_184 0 250 (dk_at dksL_law_84 6 rfl rfl)
theorem dL_law_2105 : decode cL_law 2105 = .ok (.istore 6, 2) := dk_54 6 (dk_at dksL_law_84 9 rfl rfl)
theorem dL_law_2107 : decode cL_law 2107 = .ok (.aload_n 2, 1) := dk_44 (dk_at dksL_law_84 11 rfl rfl)
theorem dL_law_2108 : decode cL_law 2108 = .ok (.aload_n 0, 1) := dk_42 (dk_at dksL_law_84 12 rfl rfl)
theorem dL_law_2109 : decode cL_law 2109 = .ok (.iload 5, 2) := dk_21 5 (dk_at dksL_law_84 13 rfl rfl)
theorem dL_law_2111 : decode cL_law 2111 = .ok (.iconst 1, 1) := dk_4 (dk_at dksL_law_84 15 rfl rfl)
theorem dL_law_2112 : decode cL_law 2112 = .ok (.iadd, 1) := dk_96 (dk_at dksL_law_84 16 rfl rfl)
theorem dL_law_2113 : decode cL_law 2113 = .ok (.iaload, 1) := dk_46 (dk_at dksL_law_84 17 rfl rfl)
theorem dL_law_2114 : decode cL_law 2114 = .ok (.aload_n 0, 1) := dk_42 (dk_at dksL_law_84 18 rfl rfl)
theorem dL_law_2115 : decode cL_law 2115 = .ok (.iload 5, 2) := dk_21 5 (dk_at dksL_law_84 19 rfl rfl)
theorem dL_law_2117 : decode cL_law 2117 = .ok (.iconst 2, 1) := dk_5 (dk_at dksL_law_84 21 rfl rfl)
theorem dL_law_2118 : decode cL_law 2118 = .ok (.iadd, 1) := dk_96 (dk_at dksL_law_84 22 rfl rfl)
theorem dL_law_2119 : decode cL_law 2119 = .ok (.iaload, 1) := dk_46 (dk_at dksL_law_84 23 rfl rfl)
theorem dL_law_2120 : decode cL_law 2120 = .ok (.ifCond .eq 7, 3) := dk_153 0 7 (dk_at dksL_law_85 0 rfl rfl)
theorem dL_law_2123 : decode cL_law 2123 = .ok (.iconst 1, 1) := dk_4 (dk_at dksL_law_85 3 rfl rfl)
theorem dL_law_2124 : decode cL_law 2124 = .ok (.goto 4, 3) := dk_167 0 4 (dk_at dksL_law_85 4 rfl rfl)
theorem dL_law_2127 : decode cL_law 2127 = .ok (.iconst 0, 1) := dk_3 (dk_at dksL_law_85 7 rfl rfl)
theorem dL_law_2128 : decode cL_law 2128 = .ok (.invokevirtual 253, 3) := dk_182 0 253 (dk_at dksL_law_85 8 rfl rfl)
theorem dL_law_2131 : decode cL_law 2131 = .ok (.istore 7, 2) := dk_54 7 (dk_at dksL_law_85 11 rfl rfl)
theorem dL_law_2133 : decode cL_law 2133 = .ok (.aload_n 2, 1) := dk_44 (dk_at dksL_law_85 13 rfl rfl)
theorem dL_law_2134 : decode cL_law 2134 = .ok (.invokevirtual 138, 3) := dk_182 0 138 (dk_at dksL_law_85 14 rfl rfl)
theorem dL_law_2137 : decode cL_law 2137 = .ok (.iload 6, 2) := dk_21 6 (dk_at dksL_law_85 17 rfl rfl)
theorem dL_law_2139 : decode cL_law 2139 = .ok (.if_icmp .eq 5, 3) := dk_159 0 5 (dk_at dksL_law_85 19 rfl rfl)
theorem dL_law_2142 : decode cL_law 2142 = .ok (.iconst 0, 1) := dk_3 (dk_at dksL_law_85 22 rfl rfl)
theorem dL_law_2143 : decode cL_law 2143 = .ok (.ireturn, 1) := dk_172 (dk_at dksL_law_85 23 rfl rfl)
theorem dL_law_2144 : decode cL_law 2144 = .ok (.iload 6, 2) := dk_21 6 (dk_at dksL_law_86 0 rfl rfl)
theorem dL_law_2146 : decode cL_law 2146 = .ok (.ifCond .ne 15, 3) := dk_154 0 15 (dk_at dksL_law_86 2 rfl rfl)
theorem dL_law_2149 : decode cL_law 2149 = .ok (.aload_n 3, 1) := dk_45 (dk_at dksL_law_86 5 rfl rfl)
theorem dL_law_2150 : decode cL_law 2150 = .ok (.iconst 0, 1) := dk_3 (dk_at dksL_law_86 6 rfl rfl)
theorem dL_law_2151 : decode cL_law 2151 = .ok (.laload, 1) := dk_47 (dk_at dksL_law_86 7 rfl rfl)
theorem dL_law_2152 : decode cL_law 2152 = .ok (.iload 7, 2) := dk_21 7 (dk_at dksL_law_86 8 rfl rfl)
theorem dL_law_2154 : decode cL_law 2154 = .ok (.i2l, 1) := dk_133 (dk_at dksL_law_86 10 rfl rfl)
theorem dL_law_2155 : decode cL_law 2155 = .ok (.lcmp, 1) := dk_148 (dk_at dksL_law_86 11 rfl rfl)
theorem dL_law_2156 : decode cL_law 2156 = .ok (.ifCond .eq 5, 3) := dk_153 0 5 (dk_at dksL_law_86 12 rfl rfl)
theorem dL_law_2159 : decode cL_law 2159 = .ok (.iconst 0, 1) := dk_3 (dk_at dksL_law_86 15 rfl rfl)
theorem dL_law_2160 : decode cL_law 2160 = .ok (.ireturn, 1) := dk_172 (dk_at dksL_law_86 16 rfl rfl)
theorem dL_law_2161 : decode cL_law 2161 = .ok (.goto 104, 3) := dk_167 0 104 (dk_at dksL_law_86 17 rfl rfl)
theorem dL_law_2164 : decode cL_law 2164 = .ok (.aload_n 1, 1) := dk_43 (dk_at dksL_law_86 20 rfl rfl)
theorem dL_law_2165 : decode cL_law 2165 = .ok (.aload_n 3, 1) := dk_45 (dk_at dksL_law_86 21 rfl rfl)
theorem dL_law_2166 : decode cL_law 2166 = .ok (.invokestatic 254, 3) := dk_184 0 254 (dk_at dksL_law_87 0 rfl rfl)
theorem dL_law_2169 : decode cL_law 2169 = .ok (.istore 6, 2) := dk_54 6 (dk_at dksL_law_87 3 rfl rfl)
theorem dL_law_2171 : decode cL_law 2171 = .ok (.aload_n 2, 1) := dk_44 (dk_at dksL_law_87 5 rfl rfl)
theorem dL_law_2172 : decode cL_law 2172 = .ok (.invokevirtual 256, 3) := dk_182 1 0 (dk_at dksL_law_87 6 rfl rfl)
theorem dL_law_2175 : decode cL_law 2175 = .ok (.istore 7, 2) := dk_54 7 (dk_at dksL_law_87 9 rfl rfl)
theorem dL_law_2177 : decode cL_law 2177 = .ok (.aload_n 2, 1) := dk_44 (dk_at dksL_law_87 11 rfl rfl)
theorem dL_law_2178 : decode cL_law 2178 = .ok (.invokevirtual 138, 3) := dk_182 0 138 (dk_at dksL_law_87 12 rfl rfl)
theorem dL_law_2181 : decode cL_law 2181 = .ok (.iload 6, 2) := dk_21 6 (dk_at dksL_law_87 15 rfl rfl)
theorem dL_law_2183 : decode cL_law 2183 = .ok (.if_icmp .eq 5, 3) := dk_159 0 5 (dk_at dksL_law_87 17 rfl rfl)
theorem dL_law_2186 : decode cL_law 2186 = .ok (.iconst 0, 1) := dk_3 (dk_at dksL_law_87 20 rfl rfl)
theorem dL_law_2187 : decode cL_law 2187 = .ok (.ireturn, 1) := dk_172 (dk_at dksL_law_87 21 rfl rfl)
theorem dL_law_2188 : decode cL_law 2188 = .ok (.iload 6, 2) := dk_21 6 (dk_at dksL_law_87 22 rfl rfl)
theorem dL_law_2190 : decode cL_law 2190 = .ok (.ifCond .ne 15, 3) := dk_154 0 15 (dk_at dksL_law_88 0 rfl rfl)
theorem dL_law_2193 : decode cL_law 2193 = .ok (.aload_n 3, 1) := dk_45 (dk_at dksL_law_88 3 rfl rfl)
theorem dL_law_2194 : decode cL_law 2194 = .ok (.iconst 0, 1) := dk_3 (dk_at dksL_law_88 4 rfl rfl)
theorem dL_law_2195 : decode cL_law 2195 = .ok (.laload, 1) := dk_47 (dk_at dksL_law_88 5 rfl rfl)
theorem dL_law_2196 : decode cL_law 2196 = .ok (.iload 7, 2) := dk_21 7 (dk_at dksL_law_88 6 rfl rfl)
theorem dL_law_2198 : decode cL_law 2198 = .ok (.i2l, 1) := dk_133 (dk_at dksL_law_88 8 rfl rfl)
theorem dL_law_2199 : decode cL_law 2199 = .ok (.lcmp, 1) := dk_148 (dk_at dksL_law_88 9 rfl rfl)
theorem dL_law_2200 : decode cL_law 2200 = .ok (.ifCond .eq 5, 3) := dk_153 0 5 (dk_at dksL_law_88 10 rfl rfl)
theorem dL_law_2203 : decode cL_law 2203 = .ok (.iconst 0, 1) := dk_3 (dk_at dksL_law_88 13 rfl rfl)
theorem dL_law_2204 : decode cL_law 2204 = .ok (.ireturn, 1) := dk_172 (dk_at dksL_law_88 14 rfl rfl)
theorem dL_law_2205 : decode cL_law 2205 = .ok (.goto 60, 3) := dk_167 0 60 (dk_at dksL_law_88 15 rfl rfl)
theorem dL_law_2208 : decode cL_law 2208 = .ok (.aload_n 1, 1) := dk_43 (dk_at dksL_law_88 18 rfl rfl)
theorem dL_law_2209 : decode cL_law 2209 = .ok (.invokevirtual 257, 3) := dk_182 1 1 (dk_at dksL_law_88 19 rfl rfl)
theorem dL_law_2212 : decode cL_law 2212 = .ok (.aload_n 2, 1) := dk_44 (dk_at dksL_law_88 22 rfl rfl)
theorem dL_law_2213 : decode cL_law 2213 = .ok (.invokevirtual 260, 3) := dk_182 1 4 (dk_at dksL_law_89 0 rfl rfl)
theorem dL_law_2216 : decode cL_law 2216 = .ok (.if_icmp .eq 49, 3) := dk_159 0 49 (dk_at dksL_law_89 3 rfl rfl)
theorem dL_law_2219 : decode cL_law 2219 = .ok (.iconst 0, 1) := dk_3 (dk_at dksL_law_89 6 rfl rfl)
theorem dL_law_2220 : decode cL_law 2220 = .ok (.ireturn, 1) := dk_172 (dk_at dksL_law_89 7 rfl rfl)
theorem dL_law_2221 : decode cL_law 2221 = .ok (.aload_n 1, 1) := dk_43 (dk_at dksL_law_89 8 rfl rfl)
theorem dL_law_2222 : decode cL_law 2222 = .ok (.aload_n 3, 1) := dk_45 (dk_at dksL_law_89 9 rfl rfl)
theorem dL_law_2223 : decode cL_law 2223 = .ok (.invokestatic 261, 3) := dk_184 1 5 (dk_at dksL_law_89 10 rfl rfl)
theorem dL_law_2226 : decode cL_law 2226 = .ok (.istore 6, 2) := dk_54 6 (dk_at dksL_law_89 13 rfl rfl)
theorem dL_law_2228 : decode cL_law 2228 = .ok (.aload_n 2, 1) := dk_44 (dk_at dksL_law_89 15 rfl rfl)
theorem dL_law_2229 : decode cL_law 2229 = .ok (.invokevirtual 263, 3) := dk_182 1 7 (dk_at dksL_law_89 16 rfl rfl)
theorem dL_law_2232 : decode cL_law 2232 = .ok (.istore 7, 2) := dk_54 7 (dk_at dksL_law_89 19 rfl rfl)
theorem dL_law_2234 : decode cL_law 2234 = .ok (.aload_n 2, 1) := dk_44 (dk_at dksL_law_89 21 rfl rfl)
theorem dL_law_2235 : decode cL_law 2235 = .ok (.invokevirtual 138, 3) := dk_182 0 138 (dk_at dksL_law_90 0 rfl rfl)
theorem dL_law_2238 : decode cL_law 2238 = .ok (.iload 6, 2) := dk_21 6 (dk_at dksL_law_90 3 rfl rfl)
theorem dL_law_2240 : decode cL_law 2240 = .ok (.if_icmp .eq 5, 3) := dk_159 0 5 (dk_at dksL_law_90 5 rfl rfl)
theorem dL_law_2243 : decode cL_law 2243 = .ok (.iconst 0, 1) := dk_3 (dk_at dksL_law_90 8 rfl rfl)
theorem dL_law_2244 : decode cL_law 2244 = .ok (.ireturn, 1) := dk_172 (dk_at dksL_law_90 9 rfl rfl)
theorem dL_law_2245 : decode cL_law 2245 = .ok (.iload 6, 2) := dk_21 6 (dk_at dksL_law_90 10 rfl rfl)
theorem dL_law_2247 : decode cL_law 2247 = .ok (.ifCond .ne 15, 3) := dk_154 0 15 (dk_at dksL_law_90 12 rfl rfl)
theorem dL_law_2250 : decode cL_law 2250 = .ok (.aload_n 3, 1) := dk_45 (dk_at dksL_law_90 15 rfl rfl)
theorem dL_law_2251 : decode cL_law 2251 = .ok (.iconst 0, 1) := dk_3 (dk_at dksL_law_90 16 rfl rfl)
theorem dL_law_2252 : decode cL_law 2252 = .ok (.laload, 1) := dk_47 (dk_at dksL_law_90 17 rfl rfl)
theorem dL_law_2253 : decode cL_law 2253 = .ok (.iload 7, 2) := dk_21 7 (dk_at dksL_law_90 18 rfl rfl)
theorem dL_law_2255 : decode cL_law 2255 = .ok (.i2l, 1) := dk_133 (dk_at dksL_law_90 20 rfl rfl)
theorem dL_law_2256 : decode cL_law 2256 = .ok (.lcmp, 1) := dk_148 (dk_at dksL_law_90 21 rfl rfl)
theorem dL_law_2257 : decode cL_law 2257 = .ok (.ifCond .eq 5, 3) := dk_153 0 5 (dk_at dksL_law_91 0 rfl rfl)
theorem dL_law_2260 : decode cL_law 2260 = .ok (.iconst 0, 1) := dk_3 (dk_at dksL_law_91 3 rfl rfl)
theorem dL_law_2261 : decode cL_law 2261 = .ok (.ireturn, 1) := dk_172 (dk_at dksL_law_91 4 rfl rfl)
theorem dL_law_2262 : decode cL_law 2262 = .ok (.goto 3, 3) := dk_167 0 3 (dk_at dksL_law_91 5 rfl rfl)
theorem dL_law_2265 : decode cL_law 2265 = .ok (.iinc 5 4, 3) := dk_132 5 4 (dk_at dksL_law_91 8 rfl rfl)
theorem dL_law_2268 : decode cL_law 2268 = .ok (.goto (-2240), 3) := dk_167 247 64 (dk_at dksL_law_91 11 rfl rfl)
theorem dL_law_2271 : decode cL_law 2271 = .ok (.iconst 1, 1) := dk_4 (dk_at dksL_law_91 14 rfl rfl)
theorem dL_law_2272 : decode cL_law 2272 = .ok (.ireturn, 1) := dk_172 (dk_at dksL_law_91 15 rfl rfl)
