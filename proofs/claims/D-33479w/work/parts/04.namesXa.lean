/-! EdgeLettersLaw -/
set_option maxRecDepth 100000
def RX0 : String := "EdgeLettersLaw"
abbrev cX0_start : ByteArray := method_3_code
def yX0_start : MethodName := ⟨RX0, "start", "(LEdgeLetters;II[J)I"⟩
def dkwX0_start_0 : List UInt8 := [45, 3, 42, 27, 28, 182, 0, 7, 133, 80, 167, 0, 7, 58, 4, 4, 172, 3, 172]
abbrev dktX0_start_0 : List UInt8 := dkwX0_start_0 ++ []
theorem dksX0_start_0 : cX0_start.data.toList.drop 0 = dktX0_start_0 := by decide +kernel
theorem dX0_start_0 : decode cX0_start 0 = .ok (.aload_n 3, 1) := dk_45 (dk_at dksX0_start_0 0 rfl rfl)
theorem dX0_start_1 : decode cX0_start 1 = .ok (.iconst 0, 1) := dk_3 (dk_at dksX0_start_0 1 rfl rfl)
theorem dX0_start_2 : decode cX0_start 2 = .ok (.aload_n 0, 1) := dk_42 (dk_at dksX0_start_0 2 rfl rfl)
theorem dX0_start_3 : decode cX0_start 3 = .ok (.iload_n 1, 1) := dk_27 (dk_at dksX0_start_0 3 rfl rfl)
theorem dX0_start_4 : decode cX0_start 4 = .ok (.iload_n 2, 1) := dk_28 (dk_at dksX0_start_0 4 rfl rfl)
theorem dX0_start_5 : decode cX0_start 5 = .ok (.invokevirtual 7, 3) := dk_182 0 7 (dk_at dksX0_start_0 5 rfl rfl)
theorem dX0_start_8 : decode cX0_start 8 = .ok (.i2l, 1) := dk_133 (dk_at dksX0_start_0 8 rfl rfl)
theorem dX0_start_9 : decode cX0_start 9 = .ok (.lastore, 1) := dk_80 (dk_at dksX0_start_0 9 rfl rfl)
theorem dX0_start_10 : decode cX0_start 10 = .ok (.goto 7, 3) := dk_167 0 7 (dk_at dksX0_start_0 10 rfl rfl)
theorem dX0_start_13 : decode cX0_start 13 = .ok (.astore 4, 2) := dk_58 4 (dk_at dksX0_start_0 13 rfl rfl)
theorem dX0_start_15 : decode cX0_start 15 = .ok (.iconst 1, 1) := dk_4 (dk_at dksX0_start_0 15 rfl rfl)
theorem dX0_start_16 : decode cX0_start 16 = .ok (.ireturn, 1) := dk_172 (dk_at dksX0_start_0 16 rfl rfl)
theorem dX0_start_17 : decode cX0_start 17 = .ok (.iconst 0, 1) := dk_3 (dk_at dksX0_start_0 17 rfl rfl)
theorem dX0_start_18 : decode cX0_start 18 = .ok (.ireturn, 1) := dk_172 (dk_at dksX0_start_0 18 rfl rfl)
abbrev cX0_setTelling : ByteArray := method_4_code
def yX0_setTelling : MethodName := ⟨RX0, "setTelling", "(LEdgeLetters;IIZ[J)I"⟩
def dkwX0_setTelling_1 : List UInt8 := [172]
abbrev dktX0_setTelling_1 : List UInt8 := dkwX0_setTelling_1 ++ []
def dkwX0_setTelling_0 : List UInt8 := [25, 4, 3, 42, 27, 28, 29, 182, 0, 15, 133, 80, 167, 0, 11, 58, 5, 4, 172, 58, 5, 5, 172, 3]
abbrev dktX0_setTelling_0 : List UInt8 := dkwX0_setTelling_0 ++ dktX0_setTelling_1
theorem dksX0_setTelling_0 : cX0_setTelling.data.toList.drop 0 = dktX0_setTelling_0 := by decide +kernel
theorem dksX0_setTelling_1 : cX0_setTelling.data.toList.drop 24 = dktX0_setTelling_1 := dk_seg dksX0_setTelling_0 24 rfl rfl
theorem dX0_setTelling_0 : decode cX0_setTelling 0 = .ok (.aload 4, 2) := dk_25 4 (dk_at dksX0_setTelling_0 0 rfl rfl)
theorem dX0_setTelling_2 : decode cX0_setTelling 2 = .ok (.iconst 0, 1) := dk_3 (dk_at dksX0_setTelling_0 2 rfl rfl)
theorem dX0_setTelling_3 : decode cX0_setTelling 3 = .ok (.aload_n 0, 1) := dk_42 (dk_at dksX0_setTelling_0 3 rfl rfl)
theorem dX0_setTelling_4 : decode cX0_setTelling 4 = .ok (.iload_n 1, 1) := dk_27 (dk_at dksX0_setTelling_0 4 rfl rfl)
theorem dX0_setTelling_5 : decode cX0_setTelling 5 = .ok (.iload_n 2, 1) := dk_28 (dk_at dksX0_setTelling_0 5 rfl rfl)
theorem dX0_setTelling_6 : decode cX0_setTelling 6 = .ok (.iload_n 3, 1) := dk_29 (dk_at dksX0_setTelling_0 6 rfl rfl)
theorem dX0_setTelling_7 : decode cX0_setTelling 7 = .ok (.invokevirtual 15, 3) := dk_182 0 15 (dk_at dksX0_setTelling_0 7 rfl rfl)
theorem dX0_setTelling_10 : decode cX0_setTelling 10 = .ok (.i2l, 1) := dk_133 (dk_at dksX0_setTelling_0 10 rfl rfl)
theorem dX0_setTelling_11 : decode cX0_setTelling 11 = .ok (.lastore, 1) := dk_80 (dk_at dksX0_setTelling_0 11 rfl rfl)
theorem dX0_setTelling_12 : decode cX0_setTelling 12 = .ok (.goto 11, 3) := dk_167 0 11 (dk_at dksX0_setTelling_0 12 rfl rfl)
theorem dX0_setTelling_15 : decode cX0_setTelling 15 = .ok (.astore 5, 2) := dk_58 5 (dk_at dksX0_setTelling_0 15 rfl rfl)
theorem dX0_setTelling_17 : decode cX0_setTelling 17 = .ok (.iconst 1, 1) := dk_4 (dk_at dksX0_setTelling_0 17 rfl rfl)
theorem dX0_setTelling_18 : decode cX0_setTelling 18 = .ok (.ireturn, 1) := dk_172 (dk_at dksX0_setTelling_0 18 rfl rfl)
theorem dX0_setTelling_19 : decode cX0_setTelling 19 = .ok (.astore 5, 2) := dk_58 5 (dk_at dksX0_setTelling_0 19 rfl rfl)
theorem dX0_setTelling_21 : decode cX0_setTelling 21 = .ok (.iconst 2, 1) := dk_5 (dk_at dksX0_setTelling_0 21 rfl rfl)
theorem dX0_setTelling_22 : decode cX0_setTelling 22 = .ok (.ireturn, 1) := dk_172 (dk_at dksX0_setTelling_0 22 rfl rfl)
theorem dX0_setTelling_23 : decode cX0_setTelling 23 = .ok (.iconst 0, 1) := dk_3 (dk_at dksX0_setTelling_0 23 rfl rfl)
theorem dX0_setTelling_24 : decode cX0_setTelling 24 = .ok (.ireturn, 1) := dk_172 (dk_at dksX0_setTelling_1 0 rfl rfl)
abbrev cX0_clearTelling : ByteArray := method_5_code
def yX0_clearTelling : MethodName := ⟨RX0, "clearTelling", "(LEdgeLetters;I[J)I"⟩
def dkwX0_clearTelling_0 : List UInt8 := [44, 3, 42, 27, 182, 0, 21, 133, 80, 167, 0, 9, 78, 4, 172, 78, 5, 172, 3, 172]
abbrev dktX0_clearTelling_0 : List UInt8 := dkwX0_clearTelling_0 ++ []
theorem dksX0_clearTelling_0 : cX0_clearTelling.data.toList.drop 0 = dktX0_clearTelling_0 := by decide +kernel
theorem dX0_clearTelling_0 : decode cX0_clearTelling 0 = .ok (.aload_n 2, 1) := dk_44 (dk_at dksX0_clearTelling_0 0 rfl rfl)
theorem dX0_clearTelling_1 : decode cX0_clearTelling 1 = .ok (.iconst 0, 1) := dk_3 (dk_at dksX0_clearTelling_0 1 rfl rfl)
theorem dX0_clearTelling_2 : decode cX0_clearTelling 2 = .ok (.aload_n 0, 1) := dk_42 (dk_at dksX0_clearTelling_0 2 rfl rfl)
theorem dX0_clearTelling_3 : decode cX0_clearTelling 3 = .ok (.iload_n 1, 1) := dk_27 (dk_at dksX0_clearTelling_0 3 rfl rfl)
theorem dX0_clearTelling_4 : decode cX0_clearTelling 4 = .ok (.invokevirtual 21, 3) := dk_182 0 21 (dk_at dksX0_clearTelling_0 4 rfl rfl)
theorem dX0_clearTelling_7 : decode cX0_clearTelling 7 = .ok (.i2l, 1) := dk_133 (dk_at dksX0_clearTelling_0 7 rfl rfl)
theorem dX0_clearTelling_8 : decode cX0_clearTelling 8 = .ok (.lastore, 1) := dk_80 (dk_at dksX0_clearTelling_0 8 rfl rfl)
theorem dX0_clearTelling_9 : decode cX0_clearTelling 9 = .ok (.goto 9, 3) := dk_167 0 9 (dk_at dksX0_clearTelling_0 9 rfl rfl)
theorem dX0_clearTelling_12 : decode cX0_clearTelling 12 = .ok (.astore_n 3, 1) := dk_78 (dk_at dksX0_clearTelling_0 12 rfl rfl)
theorem dX0_clearTelling_13 : decode cX0_clearTelling 13 = .ok (.iconst 1, 1) := dk_4 (dk_at dksX0_clearTelling_0 13 rfl rfl)
theorem dX0_clearTelling_14 : decode cX0_clearTelling 14 = .ok (.ireturn, 1) := dk_172 (dk_at dksX0_clearTelling_0 14 rfl rfl)
theorem dX0_clearTelling_15 : decode cX0_clearTelling 15 = .ok (.astore_n 3, 1) := dk_78 (dk_at dksX0_clearTelling_0 15 rfl rfl)
theorem dX0_clearTelling_16 : decode cX0_clearTelling 16 = .ok (.iconst 2, 1) := dk_5 (dk_at dksX0_clearTelling_0 16 rfl rfl)
theorem dX0_clearTelling_17 : decode cX0_clearTelling 17 = .ok (.ireturn, 1) := dk_172 (dk_at dksX0_clearTelling_0 17 rfl rfl)
theorem dX0_clearTelling_18 : decode cX0_clearTelling 18 = .ok (.iconst 0, 1) := dk_3 (dk_at dksX0_clearTelling_0 18 rfl rfl)
theorem dX0_clearTelling_19 : decode cX0_clearTelling 19 = .ok (.ireturn, 1) := dk_172 (dk_at dksX0_clearTelling_0 19 rfl rfl)
abbrev cX0_exchange : ByteArray := method_6_code
def yX0_exchange : MethodName := ⟨RX0, "exchange", "(LEdgeLetters;II[J)I"⟩
def dkwX0_exchange_0 : List UInt8 := [45, 3, 42, 27, 28, 182, 0, 27, 133, 80, 167, 0, 7, 58, 4, 4, 172, 3, 172]
abbrev dktX0_exchange_0 : List UInt8 := dkwX0_exchange_0 ++ []
theorem dksX0_exchange_0 : cX0_exchange.data.toList.drop 0 = dktX0_exchange_0 := by decide +kernel
theorem dX0_exchange_0 : decode cX0_exchange 0 = .ok (.aload_n 3, 1) := dk_45 (dk_at dksX0_exchange_0 0 rfl rfl)
theorem dX0_exchange_1 : decode cX0_exchange 1 = .ok (.iconst 0, 1) := dk_3 (dk_at dksX0_exchange_0 1 rfl rfl)
theorem dX0_exchange_2 : decode cX0_exchange 2 = .ok (.aload_n 0, 1) := dk_42 (dk_at dksX0_exchange_0 2 rfl rfl)
theorem dX0_exchange_3 : decode cX0_exchange 3 = .ok (.iload_n 1, 1) := dk_27 (dk_at dksX0_exchange_0 3 rfl rfl)
theorem dX0_exchange_4 : decode cX0_exchange 4 = .ok (.iload_n 2, 1) := dk_28 (dk_at dksX0_exchange_0 4 rfl rfl)
theorem dX0_exchange_5 : decode cX0_exchange 5 = .ok (.invokevirtual 27, 3) := dk_182 0 27 (dk_at dksX0_exchange_0 5 rfl rfl)
theorem dX0_exchange_8 : decode cX0_exchange 8 = .ok (.i2l, 1) := dk_133 (dk_at dksX0_exchange_0 8 rfl rfl)
theorem dX0_exchange_9 : decode cX0_exchange 9 = .ok (.lastore, 1) := dk_80 (dk_at dksX0_exchange_0 9 rfl rfl)
theorem dX0_exchange_10 : decode cX0_exchange 10 = .ok (.goto 7, 3) := dk_167 0 7 (dk_at dksX0_exchange_0 10 rfl rfl)
theorem dX0_exchange_13 : decode cX0_exchange 13 = .ok (.astore 4, 2) := dk_58 4 (dk_at dksX0_exchange_0 13 rfl rfl)
theorem dX0_exchange_15 : decode cX0_exchange 15 = .ok (.iconst 1, 1) := dk_4 (dk_at dksX0_exchange_0 15 rfl rfl)
theorem dX0_exchange_16 : decode cX0_exchange 16 = .ok (.ireturn, 1) := dk_172 (dk_at dksX0_exchange_0 16 rfl rfl)
theorem dX0_exchange_17 : decode cX0_exchange 17 = .ok (.iconst 0, 1) := dk_3 (dk_at dksX0_exchange_0 17 rfl rfl)
theorem dX0_exchange_18 : decode cX0_exchange 18 = .ok (.ireturn, 1) := dk_172 (dk_at dksX0_exchange_0 18 rfl rfl)
abbrev cX0_tellingAt : ByteArray := method_7_code
def yX0_tellingAt : MethodName := ⟨RX0, "tellingAt", "(LEdgeLetters;I[J)I"⟩
def dkwX0_tellingAt_0 : List UInt8 := [44, 3, 42, 27, 182, 0, 30, 133, 80, 167, 0, 6, 78, 4, 172, 3, 172]
abbrev dktX0_tellingAt_0 : List UInt8 := dkwX0_tellingAt_0 ++ []
theorem dksX0_tellingAt_0 : cX0_tellingAt.data.toList.drop 0 = dktX0_tellingAt_0 := by decide +kernel
theorem dX0_tellingAt_0 : decode cX0_tellingAt 0 = .ok (.aload_n 2, 1) := dk_44 (dk_at dksX0_tellingAt_0 0 rfl rfl)
theorem dX0_tellingAt_1 : decode cX0_tellingAt 1 = .ok (.iconst 0, 1) := dk_3 (dk_at dksX0_tellingAt_0 1 rfl rfl)
theorem dX0_tellingAt_2 : decode cX0_tellingAt 2 = .ok (.aload_n 0, 1) := dk_42 (dk_at dksX0_tellingAt_0 2 rfl rfl)
theorem dX0_tellingAt_3 : decode cX0_tellingAt 3 = .ok (.iload_n 1, 1) := dk_27 (dk_at dksX0_tellingAt_0 3 rfl rfl)
theorem dX0_tellingAt_4 : decode cX0_tellingAt 4 = .ok (.invokevirtual 30, 3) := dk_182 0 30 (dk_at dksX0_tellingAt_0 4 rfl rfl)
theorem dX0_tellingAt_7 : decode cX0_tellingAt 7 = .ok (.i2l, 1) := dk_133 (dk_at dksX0_tellingAt_0 7 rfl rfl)
theorem dX0_tellingAt_8 : decode cX0_tellingAt 8 = .ok (.lastore, 1) := dk_80 (dk_at dksX0_tellingAt_0 8 rfl rfl)
theorem dX0_tellingAt_9 : decode cX0_tellingAt 9 = .ok (.goto 6, 3) := dk_167 0 6 (dk_at dksX0_tellingAt_0 9 rfl rfl)
theorem dX0_tellingAt_12 : decode cX0_tellingAt 12 = .ok (.astore_n 3, 1) := dk_78 (dk_at dksX0_tellingAt_0 12 rfl rfl)
theorem dX0_tellingAt_13 : decode cX0_tellingAt 13 = .ok (.iconst 1, 1) := dk_4 (dk_at dksX0_tellingAt_0 13 rfl rfl)
theorem dX0_tellingAt_14 : decode cX0_tellingAt 14 = .ok (.ireturn, 1) := dk_172 (dk_at dksX0_tellingAt_0 14 rfl rfl)
theorem dX0_tellingAt_15 : decode cX0_tellingAt 15 = .ok (.iconst 0, 1) := dk_3 (dk_at dksX0_tellingAt_0 15 rfl rfl)
theorem dX0_tellingAt_16 : decode cX0_tellingAt 16 = .ok (.ireturn, 1) := dk_172 (dk_at dksX0_tellingAt_0 16 rfl rfl)
abbrev cX0_isSecond : ByteArray := method_8_code
def yX0_isSecond : MethodName := ⟨RX0, "isSecond", "(LEdgeLetters;I[J)I"⟩
def dkwX0_isSecond_0 : List UInt8 := [44, 3, 42, 27, 182, 0, 33, 153, 0, 7, 10, 167, 0, 4, 9, 80, 167, 0, 6, 78, 4, 172, 3, 172]
abbrev dktX0_isSecond_0 : List UInt8 := dkwX0_isSecond_0 ++ []
theorem dksX0_isSecond_0 : cX0_isSecond.data.toList.drop 0 = dktX0_isSecond_0 := by decide +kernel
theorem dX0_isSecond_0 : decode cX0_isSecond 0 = .ok (.aload_n 2, 1) := dk_44 (dk_at dksX0_isSecond_0 0 rfl rfl)
theorem dX0_isSecond_1 : decode cX0_isSecond 1 = .ok (.iconst 0, 1) := dk_3 (dk_at dksX0_isSecond_0 1 rfl rfl)
theorem dX0_isSecond_2 : decode cX0_isSecond 2 = .ok (.aload_n 0, 1) := dk_42 (dk_at dksX0_isSecond_0 2 rfl rfl)
theorem dX0_isSecond_3 : decode cX0_isSecond 3 = .ok (.iload_n 1, 1) := dk_27 (dk_at dksX0_isSecond_0 3 rfl rfl)
theorem dX0_isSecond_4 : decode cX0_isSecond 4 = .ok (.invokevirtual 33, 3) := dk_182 0 33 (dk_at dksX0_isSecond_0 4 rfl rfl)
theorem dX0_isSecond_7 : decode cX0_isSecond 7 = .ok (.ifCond .eq 7, 3) := dk_153 0 7 (dk_at dksX0_isSecond_0 7 rfl rfl)
theorem dX0_isSecond_10 : decode cX0_isSecond 10 = .ok (.lconst 1, 1) := dk_10 (dk_at dksX0_isSecond_0 10 rfl rfl)
theorem dX0_isSecond_11 : decode cX0_isSecond 11 = .ok (.goto 4, 3) := dk_167 0 4 (dk_at dksX0_isSecond_0 11 rfl rfl)
theorem dX0_isSecond_14 : decode cX0_isSecond 14 = .ok (.lconst 0, 1) := dk_9 (dk_at dksX0_isSecond_0 14 rfl rfl)
theorem dX0_isSecond_15 : decode cX0_isSecond 15 = .ok (.lastore, 1) := dk_80 (dk_at dksX0_isSecond_0 15 rfl rfl)
theorem dX0_isSecond_16 : decode cX0_isSecond 16 = .ok (.goto 6, 3) := dk_167 0 6 (dk_at dksX0_isSecond_0 16 rfl rfl)
theorem dX0_isSecond_19 : decode cX0_isSecond 19 = .ok (.astore_n 3, 1) := dk_78 (dk_at dksX0_isSecond_0 19 rfl rfl)
theorem dX0_isSecond_20 : decode cX0_isSecond 20 = .ok (.iconst 1, 1) := dk_4 (dk_at dksX0_isSecond_0 20 rfl rfl)
theorem dX0_isSecond_21 : decode cX0_isSecond 21 = .ok (.ireturn, 1) := dk_172 (dk_at dksX0_isSecond_0 21 rfl rfl)
theorem dX0_isSecond_22 : decode cX0_isSecond 22 = .ok (.iconst 0, 1) := dk_3 (dk_at dksX0_isSecond_0 22 rfl rfl)
theorem dX0_isSecond_23 : decode cX0_isSecond 23 = .ok (.ireturn, 1) := dk_172 (dk_at dksX0_isSecond_0 23 rfl rfl)
abbrev cX0_cellOf : ByteArray := method_9_code
def yX0_cellOf : MethodName := ⟨RX0, "cellOf", "(LEdgeLetters;II[J)I"⟩
def dkwX0_cellOf_0 : List UInt8 := [45, 3, 42, 27, 28, 182, 0, 37, 133, 80, 167, 0, 7, 58, 4, 4, 172, 3, 172]
abbrev dktX0_cellOf_0 : List UInt8 := dkwX0_cellOf_0 ++ []
theorem dksX0_cellOf_0 : cX0_cellOf.data.toList.drop 0 = dktX0_cellOf_0 := by decide +kernel
theorem dX0_cellOf_0 : decode cX0_cellOf 0 = .ok (.aload_n 3, 1) := dk_45 (dk_at dksX0_cellOf_0 0 rfl rfl)
theorem dX0_cellOf_1 : decode cX0_cellOf 1 = .ok (.iconst 0, 1) := dk_3 (dk_at dksX0_cellOf_0 1 rfl rfl)
theorem dX0_cellOf_2 : decode cX0_cellOf 2 = .ok (.aload_n 0, 1) := dk_42 (dk_at dksX0_cellOf_0 2 rfl rfl)
theorem dX0_cellOf_3 : decode cX0_cellOf 3 = .ok (.iload_n 1, 1) := dk_27 (dk_at dksX0_cellOf_0 3 rfl rfl)
theorem dX0_cellOf_4 : decode cX0_cellOf 4 = .ok (.iload_n 2, 1) := dk_28 (dk_at dksX0_cellOf_0 4 rfl rfl)
theorem dX0_cellOf_5 : decode cX0_cellOf 5 = .ok (.invokevirtual 37, 3) := dk_182 0 37 (dk_at dksX0_cellOf_0 5 rfl rfl)
theorem dX0_cellOf_8 : decode cX0_cellOf 8 = .ok (.i2l, 1) := dk_133 (dk_at dksX0_cellOf_0 8 rfl rfl)
theorem dX0_cellOf_9 : decode cX0_cellOf 9 = .ok (.lastore, 1) := dk_80 (dk_at dksX0_cellOf_0 9 rfl rfl)
theorem dX0_cellOf_10 : decode cX0_cellOf 10 = .ok (.goto 7, 3) := dk_167 0 7 (dk_at dksX0_cellOf_0 10 rfl rfl)
theorem dX0_cellOf_13 : decode cX0_cellOf 13 = .ok (.astore 4, 2) := dk_58 4 (dk_at dksX0_cellOf_0 13 rfl rfl)
theorem dX0_cellOf_15 : decode cX0_cellOf 15 = .ok (.iconst 1, 1) := dk_4 (dk_at dksX0_cellOf_0 15 rfl rfl)
theorem dX0_cellOf_16 : decode cX0_cellOf 16 = .ok (.ireturn, 1) := dk_172 (dk_at dksX0_cellOf_0 16 rfl rfl)
theorem dX0_cellOf_17 : decode cX0_cellOf 17 = .ok (.iconst 0, 1) := dk_3 (dk_at dksX0_cellOf_0 17 rfl rfl)
theorem dX0_cellOf_18 : decode cX0_cellOf 18 = .ok (.ireturn, 1) := dk_172 (dk_at dksX0_cellOf_0 18 rfl rfl)
abbrev cX0_put : ByteArray := method_10_code
def yX0_put : MethodName := ⟨RX0, "put", "(LEdgeLetters;II[J)I"⟩
def dkwX0_put_0 : List UInt8 := [45, 3, 42, 27, 28, 182, 0, 40, 133, 80, 167, 0, 11, 58, 4, 4, 172, 58, 4, 5, 172, 3, 172]
abbrev dktX0_put_0 : List UInt8 := dkwX0_put_0 ++ []
theorem dksX0_put_0 : cX0_put.data.toList.drop 0 = dktX0_put_0 := by decide +kernel
theorem dX0_put_0 : decode cX0_put 0 = .ok (.aload_n 3, 1) := dk_45 (dk_at dksX0_put_0 0 rfl rfl)
theorem dX0_put_1 : decode cX0_put 1 = .ok (.iconst 0, 1) := dk_3 (dk_at dksX0_put_0 1 rfl rfl)
theorem dX0_put_2 : decode cX0_put 2 = .ok (.aload_n 0, 1) := dk_42 (dk_at dksX0_put_0 2 rfl rfl)
theorem dX0_put_3 : decode cX0_put 3 = .ok (.iload_n 1, 1) := dk_27 (dk_at dksX0_put_0 3 rfl rfl)
theorem dX0_put_4 : decode cX0_put 4 = .ok (.iload_n 2, 1) := dk_28 (dk_at dksX0_put_0 4 rfl rfl)
theorem dX0_put_5 : decode cX0_put 5 = .ok (.invokevirtual 40, 3) := dk_182 0 40 (dk_at dksX0_put_0 5 rfl rfl)
theorem dX0_put_8 : decode cX0_put 8 = .ok (.i2l, 1) := dk_133 (dk_at dksX0_put_0 8 rfl rfl)
theorem dX0_put_9 : decode cX0_put 9 = .ok (.lastore, 1) := dk_80 (dk_at dksX0_put_0 9 rfl rfl)
theorem dX0_put_10 : decode cX0_put 10 = .ok (.goto 11, 3) := dk_167 0 11 (dk_at dksX0_put_0 10 rfl rfl)
theorem dX0_put_13 : decode cX0_put 13 = .ok (.astore 4, 2) := dk_58 4 (dk_at dksX0_put_0 13 rfl rfl)
theorem dX0_put_15 : decode cX0_put 15 = .ok (.iconst 1, 1) := dk_4 (dk_at dksX0_put_0 15 rfl rfl)
theorem dX0_put_16 : decode cX0_put 16 = .ok (.ireturn, 1) := dk_172 (dk_at dksX0_put_0 16 rfl rfl)
theorem dX0_put_17 : decode cX0_put 17 = .ok (.astore 4, 2) := dk_58 4 (dk_at dksX0_put_0 17 rfl rfl)
theorem dX0_put_19 : decode cX0_put 19 = .ok (.iconst 2, 1) := dk_5 (dk_at dksX0_put_0 19 rfl rfl)
theorem dX0_put_20 : decode cX0_put 20 = .ok (.ireturn, 1) := dk_172 (dk_at dksX0_put_0 20 rfl rfl)
theorem dX0_put_21 : decode cX0_put 21 = .ok (.iconst 0, 1) := dk_3 (dk_at dksX0_put_0 21 rfl rfl)
theorem dX0_put_22 : decode cX0_put 22 = .ok (.ireturn, 1) := dk_172 (dk_at dksX0_put_0 22 rfl rfl)
abbrev cX0_crossOut : ByteArray := method_11_code
def yX0_crossOut : MethodName := ⟨RX0, "crossOut", "(LEdgeLetters;II[J)I"⟩
def dkwX0_crossOut_1 : List UInt8 := [172, 3, 172]
abbrev dktX0_crossOut_1 : List UInt8 := dkwX0_crossOut_1 ++ []
def dkwX0_crossOut_0 : List UInt8 := [45, 3, 42, 27, 28, 182, 0, 43, 133, 80, 167, 0, 15, 58, 4, 4, 172, 58, 4, 5, 172, 58, 4, 6]
abbrev dktX0_crossOut_0 : List UInt8 := dkwX0_crossOut_0 ++ dktX0_crossOut_1
theorem dksX0_crossOut_0 : cX0_crossOut.data.toList.drop 0 = dktX0_crossOut_0 := by decide +kernel
theorem dksX0_crossOut_1 : cX0_crossOut.data.toList.drop 24 = dktX0_crossOut_1 := dk_seg dksX0_crossOut_0 24 rfl rfl
theorem dX0_crossOut_0 : decode cX0_crossOut 0 = .ok (.aload_n 3, 1) := dk_45 (dk_at dksX0_crossOut_0 0 rfl rfl)
theorem dX0_crossOut_1 : decode cX0_crossOut 1 = .ok (.iconst 0, 1) := dk_3 (dk_at dksX0_crossOut_0 1 rfl rfl)
theorem dX0_crossOut_2 : decode cX0_crossOut 2 = .ok (.aload_n 0, 1) := dk_42 (dk_at dksX0_crossOut_0 2 rfl rfl)
theorem dX0_crossOut_3 : decode cX0_crossOut 3 = .ok (.iload_n 1, 1) := dk_27 (dk_at dksX0_crossOut_0 3 rfl rfl)
theorem dX0_crossOut_4 : decode cX0_crossOut 4 = .ok (.iload_n 2, 1) := dk_28 (dk_at dksX0_crossOut_0 4 rfl rfl)
theorem dX0_crossOut_5 : decode cX0_crossOut 5 = .ok (.invokevirtual 43, 3) := dk_182 0 43 (dk_at dksX0_crossOut_0 5 rfl rfl)
theorem dX0_crossOut_8 : decode cX0_crossOut 8 = .ok (.i2l, 1) := dk_133 (dk_at dksX0_crossOut_0 8 rfl rfl)
theorem dX0_crossOut_9 : decode cX0_crossOut 9 = .ok (.lastore, 1) := dk_80 (dk_at dksX0_crossOut_0 9 rfl rfl)
theorem dX0_crossOut_10 : decode cX0_crossOut 10 = .ok (.goto 15, 3) := dk_167 0 15 (dk_at dksX0_crossOut_0 10 rfl rfl)
theorem dX0_crossOut_13 : decode cX0_crossOut 13 = .ok (.astore 4, 2) := dk_58 4 (dk_at dksX0_crossOut_0 13 rfl rfl)
theorem dX0_crossOut_15 : decode cX0_crossOut 15 = .ok (.iconst 1, 1) := dk_4 (dk_at dksX0_crossOut_0 15 rfl rfl)
theorem dX0_crossOut_16 : decode cX0_crossOut 16 = .ok (.ireturn, 1) := dk_172 (dk_at dksX0_crossOut_0 16 rfl rfl)
theorem dX0_crossOut_17 : decode cX0_crossOut 17 = .ok (.astore 4, 2) := dk_58 4 (dk_at dksX0_crossOut_0 17 rfl rfl)
theorem dX0_crossOut_19 : decode cX0_crossOut 19 = .ok (.iconst 2, 1) := dk_5 (dk_at dksX0_crossOut_0 19 rfl rfl)
theorem dX0_crossOut_20 : decode cX0_crossOut 20 = .ok (.ireturn, 1) := dk_172 (dk_at dksX0_crossOut_0 20 rfl rfl)
theorem dX0_crossOut_21 : decode cX0_crossOut 21 = .ok (.astore 4, 2) := dk_58 4 (dk_at dksX0_crossOut_0 21 rfl rfl)
theorem dX0_crossOut_23 : decode cX0_crossOut 23 = .ok (.iconst 3, 1) := dk_6 (dk_at dksX0_crossOut_0 23 rfl rfl)
theorem dX0_crossOut_24 : decode cX0_crossOut 24 = .ok (.ireturn, 1) := dk_172 (dk_at dksX0_crossOut_1 0 rfl rfl)
theorem dX0_crossOut_25 : decode cX0_crossOut 25 = .ok (.iconst 0, 1) := dk_3 (dk_at dksX0_crossOut_1 1 rfl rfl)
theorem dX0_crossOut_26 : decode cX0_crossOut 26 = .ok (.ireturn, 1) := dk_172 (dk_at dksX0_crossOut_1 2 rfl rfl)
abbrev cX0_thingsOf : ByteArray := method_12_code
def yX0_thingsOf : MethodName := ⟨RX0, "thingsOf", "(LEdgeLetters;I[J)I"⟩
def dkwX0_thingsOf_0 : List UInt8 := [44, 3, 42, 27, 182, 0, 46, 133, 80, 167, 0, 6, 78, 4, 172, 3, 172]
abbrev dktX0_thingsOf_0 : List UInt8 := dkwX0_thingsOf_0 ++ []
theorem dksX0_thingsOf_0 : cX0_thingsOf.data.toList.drop 0 = dktX0_thingsOf_0 := by decide +kernel
theorem dX0_thingsOf_0 : decode cX0_thingsOf 0 = .ok (.aload_n 2, 1) := dk_44 (dk_at dksX0_thingsOf_0 0 rfl rfl)
theorem dX0_thingsOf_1 : decode cX0_thingsOf 1 = .ok (.iconst 0, 1) := dk_3 (dk_at dksX0_thingsOf_0 1 rfl rfl)
theorem dX0_thingsOf_2 : decode cX0_thingsOf 2 = .ok (.aload_n 0, 1) := dk_42 (dk_at dksX0_thingsOf_0 2 rfl rfl)
theorem dX0_thingsOf_3 : decode cX0_thingsOf 3 = .ok (.iload_n 1, 1) := dk_27 (dk_at dksX0_thingsOf_0 3 rfl rfl)
theorem dX0_thingsOf_4 : decode cX0_thingsOf 4 = .ok (.invokevirtual 46, 3) := dk_182 0 46 (dk_at dksX0_thingsOf_0 4 rfl rfl)
theorem dX0_thingsOf_7 : decode cX0_thingsOf 7 = .ok (.i2l, 1) := dk_133 (dk_at dksX0_thingsOf_0 7 rfl rfl)
theorem dX0_thingsOf_8 : decode cX0_thingsOf 8 = .ok (.lastore, 1) := dk_80 (dk_at dksX0_thingsOf_0 8 rfl rfl)
theorem dX0_thingsOf_9 : decode cX0_thingsOf 9 = .ok (.goto 6, 3) := dk_167 0 6 (dk_at dksX0_thingsOf_0 9 rfl rfl)
theorem dX0_thingsOf_12 : decode cX0_thingsOf 12 = .ok (.astore_n 3, 1) := dk_78 (dk_at dksX0_thingsOf_0 12 rfl rfl)
theorem dX0_thingsOf_13 : decode cX0_thingsOf 13 = .ok (.iconst 1, 1) := dk_4 (dk_at dksX0_thingsOf_0 13 rfl rfl)
theorem dX0_thingsOf_14 : decode cX0_thingsOf 14 = .ok (.ireturn, 1) := dk_172 (dk_at dksX0_thingsOf_0 14 rfl rfl)
theorem dX0_thingsOf_15 : decode cX0_thingsOf 15 = .ok (.iconst 0, 1) := dk_3 (dk_at dksX0_thingsOf_0 15 rfl rfl)
theorem dX0_thingsOf_16 : decode cX0_thingsOf 16 = .ok (.ireturn, 1) := dk_172 (dk_at dksX0_thingsOf_0 16 rfl rfl)
abbrev cX0_cellsWith : ByteArray := method_13_code
def yX0_cellsWith : MethodName := ⟨RX0, "cellsWith", "(LEdgeLetters;I[J)I"⟩
def dkwX0_cellsWith_0 : List UInt8 := [44, 3, 42, 27, 182, 0, 49, 80, 167, 0, 6, 78, 4, 172, 3, 172]
abbrev dktX0_cellsWith_0 : List UInt8 := dkwX0_cellsWith_0 ++ []
theorem dksX0_cellsWith_0 : cX0_cellsWith.data.toList.drop 0 = dktX0_cellsWith_0 := by decide +kernel
theorem dX0_cellsWith_0 : decode cX0_cellsWith 0 = .ok (.aload_n 2, 1) := dk_44 (dk_at dksX0_cellsWith_0 0 rfl rfl)
theorem dX0_cellsWith_1 : decode cX0_cellsWith 1 = .ok (.iconst 0, 1) := dk_3 (dk_at dksX0_cellsWith_0 1 rfl rfl)
theorem dX0_cellsWith_2 : decode cX0_cellsWith 2 = .ok (.aload_n 0, 1) := dk_42 (dk_at dksX0_cellsWith_0 2 rfl rfl)
theorem dX0_cellsWith_3 : decode cX0_cellsWith 3 = .ok (.iload_n 1, 1) := dk_27 (dk_at dksX0_cellsWith_0 3 rfl rfl)
theorem dX0_cellsWith_4 : decode cX0_cellsWith 4 = .ok (.invokevirtual 49, 3) := dk_182 0 49 (dk_at dksX0_cellsWith_0 4 rfl rfl)
theorem dX0_cellsWith_7 : decode cX0_cellsWith 7 = .ok (.lastore, 1) := dk_80 (dk_at dksX0_cellsWith_0 7 rfl rfl)
theorem dX0_cellsWith_8 : decode cX0_cellsWith 8 = .ok (.goto 6, 3) := dk_167 0 6 (dk_at dksX0_cellsWith_0 8 rfl rfl)
theorem dX0_cellsWith_11 : decode cX0_cellsWith 11 = .ok (.astore_n 3, 1) := dk_78 (dk_at dksX0_cellsWith_0 11 rfl rfl)
theorem dX0_cellsWith_12 : decode cX0_cellsWith 12 = .ok (.iconst 1, 1) := dk_4 (dk_at dksX0_cellsWith_0 12 rfl rfl)
theorem dX0_cellsWith_13 : decode cX0_cellsWith 13 = .ok (.ireturn, 1) := dk_172 (dk_at dksX0_cellsWith_0 13 rfl rfl)
theorem dX0_cellsWith_14 : decode cX0_cellsWith 14 = .ok (.iconst 0, 1) := dk_3 (dk_at dksX0_cellsWith_0 14 rfl rfl)
theorem dX0_cellsWith_15 : decode cX0_cellsWith 15 = .ok (.ireturn, 1) := dk_172 (dk_at dksX0_cellsWith_0 15 rfl rfl)
abbrev cX0_arrangements : ByteArray := method_14_code
def yX0_arrangements : MethodName := ⟨RX0, "arrangements", "(LEdgeLetters;I[J)I"⟩
def dkwX0_arrangements_0 : List UInt8 := [44, 3, 42, 27, 182, 0, 53, 133, 80, 167, 0, 6, 78, 4, 172, 3, 172]
abbrev dktX0_arrangements_0 : List UInt8 := dkwX0_arrangements_0 ++ []
theorem dksX0_arrangements_0 : cX0_arrangements.data.toList.drop 0 = dktX0_arrangements_0 := by decide +kernel
theorem dX0_arrangements_0 : decode cX0_arrangements 0 = .ok (.aload_n 2, 1) := dk_44 (dk_at dksX0_arrangements_0 0 rfl rfl)
theorem dX0_arrangements_1 : decode cX0_arrangements 1 = .ok (.iconst 0, 1) := dk_3 (dk_at dksX0_arrangements_0 1 rfl rfl)
theorem dX0_arrangements_2 : decode cX0_arrangements 2 = .ok (.aload_n 0, 1) := dk_42 (dk_at dksX0_arrangements_0 2 rfl rfl)
theorem dX0_arrangements_3 : decode cX0_arrangements 3 = .ok (.iload_n 1, 1) := dk_27 (dk_at dksX0_arrangements_0 3 rfl rfl)
theorem dX0_arrangements_4 : decode cX0_arrangements 4 = .ok (.invokevirtual 53, 3) := dk_182 0 53 (dk_at dksX0_arrangements_0 4 rfl rfl)
theorem dX0_arrangements_7 : decode cX0_arrangements 7 = .ok (.i2l, 1) := dk_133 (dk_at dksX0_arrangements_0 7 rfl rfl)
theorem dX0_arrangements_8 : decode cX0_arrangements 8 = .ok (.lastore, 1) := dk_80 (dk_at dksX0_arrangements_0 8 rfl rfl)
theorem dX0_arrangements_9 : decode cX0_arrangements 9 = .ok (.goto 6, 3) := dk_167 0 6 (dk_at dksX0_arrangements_0 9 rfl rfl)
theorem dX0_arrangements_12 : decode cX0_arrangements 12 = .ok (.astore_n 3, 1) := dk_78 (dk_at dksX0_arrangements_0 12 rfl rfl)
theorem dX0_arrangements_13 : decode cX0_arrangements 13 = .ok (.iconst 1, 1) := dk_4 (dk_at dksX0_arrangements_0 13 rfl rfl)
theorem dX0_arrangements_14 : decode cX0_arrangements 14 = .ok (.ireturn, 1) := dk_172 (dk_at dksX0_arrangements_0 14 rfl rfl)
theorem dX0_arrangements_15 : decode cX0_arrangements 15 = .ok (.iconst 0, 1) := dk_3 (dk_at dksX0_arrangements_0 15 rfl rfl)
theorem dX0_arrangements_16 : decode cX0_arrangements 16 = .ok (.ireturn, 1) := dk_172 (dk_at dksX0_arrangements_0 16 rfl rfl)
abbrev cX0_arrangementsByCells : ByteArray := method_15_code
def yX0_arrangementsByCells : MethodName := ⟨RX0, "arrangementsByCells", "(LEdgeLetters;I[J)I"⟩
def dkwX0_arrangementsByCells_0 : List UInt8 := [44, 3, 42, 27, 182, 0, 56, 133, 80, 167, 0, 6, 78, 4, 172, 3, 172]
abbrev dktX0_arrangementsByCells_0 : List UInt8 := dkwX0_arrangementsByCells_0 ++ []
theorem dksX0_arrangementsByCells_0 : cX0_arrangementsByCells.data.toList.drop 0 = dktX0_arrangementsByCells_0 := by decide +kernel
theorem dX0_arrangementsByCells_0 : decode cX0_arrangementsByCells 0 = .ok (.aload_n 2, 1) := dk_44 (dk_at dksX0_arrangementsByCells_0 0 rfl rfl)
theorem dX0_arrangementsByCells_1 : decode cX0_arrangementsByCells 1 = .ok (.iconst 0, 1) := dk_3 (dk_at dksX0_arrangementsByCells_0 1 rfl rfl)
theorem dX0_arrangementsByCells_2 : decode cX0_arrangementsByCells 2 = .ok (.aload_n 0, 1) := dk_42 (dk_at dksX0_arrangementsByCells_0 2 rfl rfl)
theorem dX0_arrangementsByCells_3 : decode cX0_arrangementsByCells 3 = .ok (.iload_n 1, 1) := dk_27 (dk_at dksX0_arrangementsByCells_0 3 rfl rfl)
theorem dX0_arrangementsByCells_4 : decode cX0_arrangementsByCells 4 = .ok (.invokevirtual 56, 3) := dk_182 0 56 (dk_at dksX0_arrangementsByCells_0 4 rfl rfl)
theorem dX0_arrangementsByCells_7 : decode cX0_arrangementsByCells 7 = .ok (.i2l, 1) := dk_133 (dk_at dksX0_arrangementsByCells_0 7 rfl rfl)
theorem dX0_arrangementsByCells_8 : decode cX0_arrangementsByCells 8 = .ok (.lastore, 1) := dk_80 (dk_at dksX0_arrangementsByCells_0 8 rfl rfl)
theorem dX0_arrangementsByCells_9 : decode cX0_arrangementsByCells 9 = .ok (.goto 6, 3) := dk_167 0 6 (dk_at dksX0_arrangementsByCells_0 9 rfl rfl)
theorem dX0_arrangementsByCells_12 : decode cX0_arrangementsByCells 12 = .ok (.astore_n 3, 1) := dk_78 (dk_at dksX0_arrangementsByCells_0 12 rfl rfl)
theorem dX0_arrangementsByCells_13 : decode cX0_arrangementsByCells 13 = .ok (.iconst 1, 1) := dk_4 (dk_at dksX0_arrangementsByCells_0 13 rfl rfl)
theorem dX0_arrangementsByCells_14 : decode cX0_arrangementsByCells 14 = .ok (.ireturn, 1) := dk_172 (dk_at dksX0_arrangementsByCells_0 14 rfl rfl)
theorem dX0_arrangementsByCells_15 : decode cX0_arrangementsByCells 15 = .ok (.iconst 0, 1) := dk_3 (dk_at dksX0_arrangementsByCells_0 15 rfl rfl)
theorem dX0_arrangementsByCells_16 : decode cX0_arrangementsByCells 16 = .ok (.ireturn, 1) := dk_172 (dk_at dksX0_arrangementsByCells_0 16 rfl rfl)
abbrev cX0_thingsIn : ByteArray := method_16_code
def yX0_thingsIn : MethodName := ⟨RX0, "thingsIn", "(LEdgeLetters;II[J)I"⟩
def dkwX0_thingsIn_0 : List UInt8 := [45, 3, 42, 27, 28, 182, 0, 59, 133, 80, 167, 0, 7, 58, 4, 4, 172, 3, 172]
abbrev dktX0_thingsIn_0 : List UInt8 := dkwX0_thingsIn_0 ++ []
theorem dksX0_thingsIn_0 : cX0_thingsIn.data.toList.drop 0 = dktX0_thingsIn_0 := by decide +kernel
theorem dX0_thingsIn_0 : decode cX0_thingsIn 0 = .ok (.aload_n 3, 1) := dk_45 (dk_at dksX0_thingsIn_0 0 rfl rfl)
theorem dX0_thingsIn_1 : decode cX0_thingsIn 1 = .ok (.iconst 0, 1) := dk_3 (dk_at dksX0_thingsIn_0 1 rfl rfl)
theorem dX0_thingsIn_2 : decode cX0_thingsIn 2 = .ok (.aload_n 0, 1) := dk_42 (dk_at dksX0_thingsIn_0 2 rfl rfl)
theorem dX0_thingsIn_3 : decode cX0_thingsIn 3 = .ok (.iload_n 1, 1) := dk_27 (dk_at dksX0_thingsIn_0 3 rfl rfl)
theorem dX0_thingsIn_4 : decode cX0_thingsIn 4 = .ok (.iload_n 2, 1) := dk_28 (dk_at dksX0_thingsIn_0 4 rfl rfl)
theorem dX0_thingsIn_5 : decode cX0_thingsIn 5 = .ok (.invokevirtual 59, 3) := dk_182 0 59 (dk_at dksX0_thingsIn_0 5 rfl rfl)
theorem dX0_thingsIn_8 : decode cX0_thingsIn 8 = .ok (.i2l, 1) := dk_133 (dk_at dksX0_thingsIn_0 8 rfl rfl)
theorem dX0_thingsIn_9 : decode cX0_thingsIn 9 = .ok (.lastore, 1) := dk_80 (dk_at dksX0_thingsIn_0 9 rfl rfl)
theorem dX0_thingsIn_10 : decode cX0_thingsIn 10 = .ok (.goto 7, 3) := dk_167 0 7 (dk_at dksX0_thingsIn_0 10 rfl rfl)
theorem dX0_thingsIn_13 : decode cX0_thingsIn 13 = .ok (.astore 4, 2) := dk_58 4 (dk_at dksX0_thingsIn_0 13 rfl rfl)
theorem dX0_thingsIn_15 : decode cX0_thingsIn 15 = .ok (.iconst 1, 1) := dk_4 (dk_at dksX0_thingsIn_0 15 rfl rfl)
theorem dX0_thingsIn_16 : decode cX0_thingsIn 16 = .ok (.ireturn, 1) := dk_172 (dk_at dksX0_thingsIn_0 16 rfl rfl)
theorem dX0_thingsIn_17 : decode cX0_thingsIn 17 = .ok (.iconst 0, 1) := dk_3 (dk_at dksX0_thingsIn_0 17 rfl rfl)
theorem dX0_thingsIn_18 : decode cX0_thingsIn 18 = .ok (.ireturn, 1) := dk_172 (dk_at dksX0_thingsIn_0 18 rfl rfl)
abbrev cX0_seenFrom : ByteArray := method_17_code
def yX0_seenFrom : MethodName := ⟨RX0, "seenFrom", "(LEdgeLetters;II[J)I"⟩
def dkwX0_seenFrom_0 : List UInt8 := [45, 3, 42, 27, 28, 182, 0, 62, 133, 80, 167, 0, 7, 58, 4, 4, 172, 3, 172]
abbrev dktX0_seenFrom_0 : List UInt8 := dkwX0_seenFrom_0 ++ []
theorem dksX0_seenFrom_0 : cX0_seenFrom.data.toList.drop 0 = dktX0_seenFrom_0 := by decide +kernel
theorem dX0_seenFrom_0 : decode cX0_seenFrom 0 = .ok (.aload_n 3, 1) := dk_45 (dk_at dksX0_seenFrom_0 0 rfl rfl)
theorem dX0_seenFrom_1 : decode cX0_seenFrom 1 = .ok (.iconst 0, 1) := dk_3 (dk_at dksX0_seenFrom_0 1 rfl rfl)
theorem dX0_seenFrom_2 : decode cX0_seenFrom 2 = .ok (.aload_n 0, 1) := dk_42 (dk_at dksX0_seenFrom_0 2 rfl rfl)
theorem dX0_seenFrom_3 : decode cX0_seenFrom 3 = .ok (.iload_n 1, 1) := dk_27 (dk_at dksX0_seenFrom_0 3 rfl rfl)
theorem dX0_seenFrom_4 : decode cX0_seenFrom 4 = .ok (.iload_n 2, 1) := dk_28 (dk_at dksX0_seenFrom_0 4 rfl rfl)
theorem dX0_seenFrom_5 : decode cX0_seenFrom 5 = .ok (.invokevirtual 62, 3) := dk_182 0 62 (dk_at dksX0_seenFrom_0 5 rfl rfl)
theorem dX0_seenFrom_8 : decode cX0_seenFrom 8 = .ok (.i2l, 1) := dk_133 (dk_at dksX0_seenFrom_0 8 rfl rfl)
theorem dX0_seenFrom_9 : decode cX0_seenFrom 9 = .ok (.lastore, 1) := dk_80 (dk_at dksX0_seenFrom_0 9 rfl rfl)
theorem dX0_seenFrom_10 : decode cX0_seenFrom 10 = .ok (.goto 7, 3) := dk_167 0 7 (dk_at dksX0_seenFrom_0 10 rfl rfl)
theorem dX0_seenFrom_13 : decode cX0_seenFrom 13 = .ok (.astore 4, 2) := dk_58 4 (dk_at dksX0_seenFrom_0 13 rfl rfl)
theorem dX0_seenFrom_15 : decode cX0_seenFrom 15 = .ok (.iconst 1, 1) := dk_4 (dk_at dksX0_seenFrom_0 15 rfl rfl)
theorem dX0_seenFrom_16 : decode cX0_seenFrom 16 = .ok (.ireturn, 1) := dk_172 (dk_at dksX0_seenFrom_0 16 rfl rfl)
theorem dX0_seenFrom_17 : decode cX0_seenFrom 17 = .ok (.iconst 0, 1) := dk_3 (dk_at dksX0_seenFrom_0 17 rfl rfl)
theorem dX0_seenFrom_18 : decode cX0_seenFrom 18 = .ok (.ireturn, 1) := dk_172 (dk_at dksX0_seenFrom_0 18 rfl rfl)
abbrev cX0_reasonFor : ByteArray := method_18_code
def yX0_reasonFor : MethodName := ⟨RX0, "reasonFor", "(LEdgeLetters;II[J)I"⟩
def dkwX0_reasonFor_0 : List UInt8 := [45, 3, 42, 27, 28, 182, 0, 65, 133, 80, 167, 0, 11, 58, 4, 4, 172, 58, 4, 5, 172, 3, 172]
abbrev dktX0_reasonFor_0 : List UInt8 := dkwX0_reasonFor_0 ++ []
theorem dksX0_reasonFor_0 : cX0_reasonFor.data.toList.drop 0 = dktX0_reasonFor_0 := by decide +kernel
theorem dX0_reasonFor_0 : decode cX0_reasonFor 0 = .ok (.aload_n 3, 1) := dk_45 (dk_at dksX0_reasonFor_0 0 rfl rfl)
theorem dX0_reasonFor_1 : decode cX0_reasonFor 1 = .ok (.iconst 0, 1) := dk_3 (dk_at dksX0_reasonFor_0 1 rfl rfl)
theorem dX0_reasonFor_2 : decode cX0_reasonFor 2 = .ok (.aload_n 0, 1) := dk_42 (dk_at dksX0_reasonFor_0 2 rfl rfl)
theorem dX0_reasonFor_3 : decode cX0_reasonFor 3 = .ok (.iload_n 1, 1) := dk_27 (dk_at dksX0_reasonFor_0 3 rfl rfl)
theorem dX0_reasonFor_4 : decode cX0_reasonFor 4 = .ok (.iload_n 2, 1) := dk_28 (dk_at dksX0_reasonFor_0 4 rfl rfl)
theorem dX0_reasonFor_5 : decode cX0_reasonFor 5 = .ok (.invokevirtual 65, 3) := dk_182 0 65 (dk_at dksX0_reasonFor_0 5 rfl rfl)
theorem dX0_reasonFor_8 : decode cX0_reasonFor 8 = .ok (.i2l, 1) := dk_133 (dk_at dksX0_reasonFor_0 8 rfl rfl)
theorem dX0_reasonFor_9 : decode cX0_reasonFor 9 = .ok (.lastore, 1) := dk_80 (dk_at dksX0_reasonFor_0 9 rfl rfl)
theorem dX0_reasonFor_10 : decode cX0_reasonFor 10 = .ok (.goto 11, 3) := dk_167 0 11 (dk_at dksX0_reasonFor_0 10 rfl rfl)
theorem dX0_reasonFor_13 : decode cX0_reasonFor 13 = .ok (.astore 4, 2) := dk_58 4 (dk_at dksX0_reasonFor_0 13 rfl rfl)
theorem dX0_reasonFor_15 : decode cX0_reasonFor 15 = .ok (.iconst 1, 1) := dk_4 (dk_at dksX0_reasonFor_0 15 rfl rfl)
theorem dX0_reasonFor_16 : decode cX0_reasonFor 16 = .ok (.ireturn, 1) := dk_172 (dk_at dksX0_reasonFor_0 16 rfl rfl)
theorem dX0_reasonFor_17 : decode cX0_reasonFor 17 = .ok (.astore 4, 2) := dk_58 4 (dk_at dksX0_reasonFor_0 17 rfl rfl)
theorem dX0_reasonFor_19 : decode cX0_reasonFor 19 = .ok (.iconst 2, 1) := dk_5 (dk_at dksX0_reasonFor_0 19 rfl rfl)
theorem dX0_reasonFor_20 : decode cX0_reasonFor 20 = .ok (.ireturn, 1) := dk_172 (dk_at dksX0_reasonFor_0 20 rfl rfl)
theorem dX0_reasonFor_21 : decode cX0_reasonFor 21 = .ok (.iconst 0, 1) := dk_3 (dk_at dksX0_reasonFor_0 21 rfl rfl)
theorem dX0_reasonFor_22 : decode cX0_reasonFor 22 = .ok (.ireturn, 1) := dk_172 (dk_at dksX0_reasonFor_0 22 rfl rfl)
abbrev cX0_step : ByteArray := method_19_code
def yX0_step : MethodName := ⟨RX0, "step", "(LEdgeLetters;[J)I"⟩
def dkwX0_step_0 : List UInt8 := [43, 3, 42, 182, 0, 68, 133, 80, 167, 0, 6, 77, 4, 172, 3, 172]
abbrev dktX0_step_0 : List UInt8 := dkwX0_step_0 ++ []
theorem dksX0_step_0 : cX0_step.data.toList.drop 0 = dktX0_step_0 := by decide +kernel
theorem dX0_step_0 : decode cX0_step 0 = .ok (.aload_n 1, 1) := dk_43 (dk_at dksX0_step_0 0 rfl rfl)
theorem dX0_step_1 : decode cX0_step 1 = .ok (.iconst 0, 1) := dk_3 (dk_at dksX0_step_0 1 rfl rfl)
theorem dX0_step_2 : decode cX0_step 2 = .ok (.aload_n 0, 1) := dk_42 (dk_at dksX0_step_0 2 rfl rfl)
theorem dX0_step_3 : decode cX0_step 3 = .ok (.invokevirtual 68, 3) := dk_182 0 68 (dk_at dksX0_step_0 3 rfl rfl)
theorem dX0_step_6 : decode cX0_step 6 = .ok (.i2l, 1) := dk_133 (dk_at dksX0_step_0 6 rfl rfl)
theorem dX0_step_7 : decode cX0_step 7 = .ok (.lastore, 1) := dk_80 (dk_at dksX0_step_0 7 rfl rfl)
theorem dX0_step_8 : decode cX0_step 8 = .ok (.goto 6, 3) := dk_167 0 6 (dk_at dksX0_step_0 8 rfl rfl)
theorem dX0_step_11 : decode cX0_step 11 = .ok (.astore_n 2, 1) := dk_77 (dk_at dksX0_step_0 11 rfl rfl)
theorem dX0_step_12 : decode cX0_step 12 = .ok (.iconst 1, 1) := dk_4 (dk_at dksX0_step_0 12 rfl rfl)
theorem dX0_step_13 : decode cX0_step 13 = .ok (.ireturn, 1) := dk_172 (dk_at dksX0_step_0 13 rfl rfl)
theorem dX0_step_14 : decode cX0_step 14 = .ok (.iconst 0, 1) := dk_3 (dk_at dksX0_step_0 14 rfl rfl)
theorem dX0_step_15 : decode cX0_step 15 = .ok (.ireturn, 1) := dk_172 (dk_at dksX0_step_0 15 rfl rfl)
abbrev cX0_stepAll : ByteArray := method_20_code
def yX0_stepAll : MethodName := ⟨RX0, "stepAll", "(LEdgeLetters;I[J)I"⟩
def dkwX0_stepAll_0 : List UInt8 := [44, 3, 42, 27, 182, 0, 72, 133, 80, 167, 0, 6, 78, 4, 172, 3, 172]
abbrev dktX0_stepAll_0 : List UInt8 := dkwX0_stepAll_0 ++ []
theorem dksX0_stepAll_0 : cX0_stepAll.data.toList.drop 0 = dktX0_stepAll_0 := by decide +kernel
theorem dX0_stepAll_0 : decode cX0_stepAll 0 = .ok (.aload_n 2, 1) := dk_44 (dk_at dksX0_stepAll_0 0 rfl rfl)
theorem dX0_stepAll_1 : decode cX0_stepAll 1 = .ok (.iconst 0, 1) := dk_3 (dk_at dksX0_stepAll_0 1 rfl rfl)
theorem dX0_stepAll_2 : decode cX0_stepAll 2 = .ok (.aload_n 0, 1) := dk_42 (dk_at dksX0_stepAll_0 2 rfl rfl)
theorem dX0_stepAll_3 : decode cX0_stepAll 3 = .ok (.iload_n 1, 1) := dk_27 (dk_at dksX0_stepAll_0 3 rfl rfl)
theorem dX0_stepAll_4 : decode cX0_stepAll 4 = .ok (.invokevirtual 72, 3) := dk_182 0 72 (dk_at dksX0_stepAll_0 4 rfl rfl)
theorem dX0_stepAll_7 : decode cX0_stepAll 7 = .ok (.i2l, 1) := dk_133 (dk_at dksX0_stepAll_0 7 rfl rfl)
theorem dX0_stepAll_8 : decode cX0_stepAll 8 = .ok (.lastore, 1) := dk_80 (dk_at dksX0_stepAll_0 8 rfl rfl)
theorem dX0_stepAll_9 : decode cX0_stepAll 9 = .ok (.goto 6, 3) := dk_167 0 6 (dk_at dksX0_stepAll_0 9 rfl rfl)
theorem dX0_stepAll_12 : decode cX0_stepAll 12 = .ok (.astore_n 3, 1) := dk_78 (dk_at dksX0_stepAll_0 12 rfl rfl)
theorem dX0_stepAll_13 : decode cX0_stepAll 13 = .ok (.iconst 1, 1) := dk_4 (dk_at dksX0_stepAll_0 13 rfl rfl)
theorem dX0_stepAll_14 : decode cX0_stepAll 14 = .ok (.ireturn, 1) := dk_172 (dk_at dksX0_stepAll_0 14 rfl rfl)
theorem dX0_stepAll_15 : decode cX0_stepAll 15 = .ok (.iconst 0, 1) := dk_3 (dk_at dksX0_stepAll_0 15 rfl rfl)
theorem dX0_stepAll_16 : decode cX0_stepAll 16 = .ok (.ireturn, 1) := dk_172 (dk_at dksX0_stepAll_0 16 rfl rfl)
abbrev cX0_stepsUpTo : ByteArray := method_21_code
def yX0_stepsUpTo : MethodName := ⟨RX0, "stepsUpTo", "(LEdgeLetters;I[J)I"⟩
def dkwX0_stepsUpTo_0 : List UInt8 := [44, 3, 42, 27, 182, 0, 75, 133, 80, 167, 0, 6, 78, 4, 172, 3, 172]
abbrev dktX0_stepsUpTo_0 : List UInt8 := dkwX0_stepsUpTo_0 ++ []
theorem dksX0_stepsUpTo_0 : cX0_stepsUpTo.data.toList.drop 0 = dktX0_stepsUpTo_0 := by decide +kernel
theorem dX0_stepsUpTo_0 : decode cX0_stepsUpTo 0 = .ok (.aload_n 2, 1) := dk_44 (dk_at dksX0_stepsUpTo_0 0 rfl rfl)
theorem dX0_stepsUpTo_1 : decode cX0_stepsUpTo 1 = .ok (.iconst 0, 1) := dk_3 (dk_at dksX0_stepsUpTo_0 1 rfl rfl)
theorem dX0_stepsUpTo_2 : decode cX0_stepsUpTo 2 = .ok (.aload_n 0, 1) := dk_42 (dk_at dksX0_stepsUpTo_0 2 rfl rfl)
theorem dX0_stepsUpTo_3 : decode cX0_stepsUpTo 3 = .ok (.iload_n 1, 1) := dk_27 (dk_at dksX0_stepsUpTo_0 3 rfl rfl)
theorem dX0_stepsUpTo_4 : decode cX0_stepsUpTo 4 = .ok (.invokevirtual 75, 3) := dk_182 0 75 (dk_at dksX0_stepsUpTo_0 4 rfl rfl)
theorem dX0_stepsUpTo_7 : decode cX0_stepsUpTo 7 = .ok (.i2l, 1) := dk_133 (dk_at dksX0_stepsUpTo_0 7 rfl rfl)
theorem dX0_stepsUpTo_8 : decode cX0_stepsUpTo 8 = .ok (.lastore, 1) := dk_80 (dk_at dksX0_stepsUpTo_0 8 rfl rfl)
theorem dX0_stepsUpTo_9 : decode cX0_stepsUpTo 9 = .ok (.goto 6, 3) := dk_167 0 6 (dk_at dksX0_stepsUpTo_0 9 rfl rfl)
theorem dX0_stepsUpTo_12 : decode cX0_stepsUpTo 12 = .ok (.astore_n 3, 1) := dk_78 (dk_at dksX0_stepsUpTo_0 12 rfl rfl)
theorem dX0_stepsUpTo_13 : decode cX0_stepsUpTo 13 = .ok (.iconst 1, 1) := dk_4 (dk_at dksX0_stepsUpTo_0 13 rfl rfl)
theorem dX0_stepsUpTo_14 : decode cX0_stepsUpTo 14 = .ok (.ireturn, 1) := dk_172 (dk_at dksX0_stepsUpTo_0 14 rfl rfl)
theorem dX0_stepsUpTo_15 : decode cX0_stepsUpTo 15 = .ok (.iconst 0, 1) := dk_3 (dk_at dksX0_stepsUpTo_0 15 rfl rfl)
theorem dX0_stepsUpTo_16 : decode cX0_stepsUpTo 16 = .ok (.ireturn, 1) := dk_172 (dk_at dksX0_stepsUpTo_0 16 rfl rfl)
abbrev cX0_firstThing : ByteArray := method_22_code
def yX0_firstThing : MethodName := ⟨RX0, "firstThing", "(LEdgeLetters;I[J)I"⟩
def dkwX0_firstThing_0 : List UInt8 := [44, 3, 42, 27, 182, 0, 78, 133, 80, 167, 0, 6, 78, 4, 172, 3, 172]
abbrev dktX0_firstThing_0 : List UInt8 := dkwX0_firstThing_0 ++ []
theorem dksX0_firstThing_0 : cX0_firstThing.data.toList.drop 0 = dktX0_firstThing_0 := by decide +kernel
theorem dX0_firstThing_0 : decode cX0_firstThing 0 = .ok (.aload_n 2, 1) := dk_44 (dk_at dksX0_firstThing_0 0 rfl rfl)
theorem dX0_firstThing_1 : decode cX0_firstThing 1 = .ok (.iconst 0, 1) := dk_3 (dk_at dksX0_firstThing_0 1 rfl rfl)
theorem dX0_firstThing_2 : decode cX0_firstThing 2 = .ok (.aload_n 0, 1) := dk_42 (dk_at dksX0_firstThing_0 2 rfl rfl)
theorem dX0_firstThing_3 : decode cX0_firstThing 3 = .ok (.iload_n 1, 1) := dk_27 (dk_at dksX0_firstThing_0 3 rfl rfl)
theorem dX0_firstThing_4 : decode cX0_firstThing 4 = .ok (.invokevirtual 78, 3) := dk_182 0 78 (dk_at dksX0_firstThing_0 4 rfl rfl)
theorem dX0_firstThing_7 : decode cX0_firstThing 7 = .ok (.i2l, 1) := dk_133 (dk_at dksX0_firstThing_0 7 rfl rfl)
theorem dX0_firstThing_8 : decode cX0_firstThing 8 = .ok (.lastore, 1) := dk_80 (dk_at dksX0_firstThing_0 8 rfl rfl)
theorem dX0_firstThing_9 : decode cX0_firstThing 9 = .ok (.goto 6, 3) := dk_167 0 6 (dk_at dksX0_firstThing_0 9 rfl rfl)
theorem dX0_firstThing_12 : decode cX0_firstThing 12 = .ok (.astore_n 3, 1) := dk_78 (dk_at dksX0_firstThing_0 12 rfl rfl)
theorem dX0_firstThing_13 : decode cX0_firstThing 13 = .ok (.iconst 1, 1) := dk_4 (dk_at dksX0_firstThing_0 13 rfl rfl)
theorem dX0_firstThing_14 : decode cX0_firstThing 14 = .ok (.ireturn, 1) := dk_172 (dk_at dksX0_firstThing_0 14 rfl rfl)
theorem dX0_firstThing_15 : decode cX0_firstThing 15 = .ok (.iconst 0, 1) := dk_3 (dk_at dksX0_firstThing_0 15 rfl rfl)
theorem dX0_firstThing_16 : decode cX0_firstThing 16 = .ok (.ireturn, 1) := dk_172 (dk_at dksX0_firstThing_0 16 rfl rfl)
abbrev cX0_isNeeded : ByteArray := method_23_code
def yX0_isNeeded : MethodName := ⟨RX0, "isNeeded", "(LEdgeLetters;I[J)I"⟩
def dkwX0_isNeeded_1 : List UInt8 := [172, 3, 172]
abbrev dktX0_isNeeded_1 : List UInt8 := dkwX0_isNeeded_1 ++ []
def dkwX0_isNeeded_0 : List UInt8 := [44, 3, 42, 27, 182, 0, 81, 153, 0, 7, 10, 167, 0, 4, 9, 80, 167, 0, 9, 78, 4, 172, 78, 5]
abbrev dktX0_isNeeded_0 : List UInt8 := dkwX0_isNeeded_0 ++ dktX0_isNeeded_1
theorem dksX0_isNeeded_0 : cX0_isNeeded.data.toList.drop 0 = dktX0_isNeeded_0 := by decide +kernel
theorem dksX0_isNeeded_1 : cX0_isNeeded.data.toList.drop 24 = dktX0_isNeeded_1 := dk_seg dksX0_isNeeded_0 24 rfl rfl
theorem dX0_isNeeded_0 : decode cX0_isNeeded 0 = .ok (.aload_n 2, 1) := dk_44 (dk_at dksX0_isNeeded_0 0 rfl rfl)
theorem dX0_isNeeded_1 : decode cX0_isNeeded 1 = .ok (.iconst 0, 1) := dk_3 (dk_at dksX0_isNeeded_0 1 rfl rfl)
theorem dX0_isNeeded_2 : decode cX0_isNeeded 2 = .ok (.aload_n 0, 1) := dk_42 (dk_at dksX0_isNeeded_0 2 rfl rfl)
theorem dX0_isNeeded_3 : decode cX0_isNeeded 3 = .ok (.iload_n 1, 1) := dk_27 (dk_at dksX0_isNeeded_0 3 rfl rfl)
theorem dX0_isNeeded_4 : decode cX0_isNeeded 4 = .ok (.invokevirtual 81, 3) := dk_182 0 81 (dk_at dksX0_isNeeded_0 4 rfl rfl)
theorem dX0_isNeeded_7 : decode cX0_isNeeded 7 = .ok (.ifCond .eq 7, 3) := dk_153 0 7 (dk_at dksX0_isNeeded_0 7 rfl rfl)
theorem dX0_isNeeded_10 : decode cX0_isNeeded 10 = .ok (.lconst 1, 1) := dk_10 (dk_at dksX0_isNeeded_0 10 rfl rfl)
theorem dX0_isNeeded_11 : decode cX0_isNeeded 11 = .ok (.goto 4, 3) := dk_167 0 4 (dk_at dksX0_isNeeded_0 11 rfl rfl)
theorem dX0_isNeeded_14 : decode cX0_isNeeded 14 = .ok (.lconst 0, 1) := dk_9 (dk_at dksX0_isNeeded_0 14 rfl rfl)
theorem dX0_isNeeded_15 : decode cX0_isNeeded 15 = .ok (.lastore, 1) := dk_80 (dk_at dksX0_isNeeded_0 15 rfl rfl)
theorem dX0_isNeeded_16 : decode cX0_isNeeded 16 = .ok (.goto 9, 3) := dk_167 0 9 (dk_at dksX0_isNeeded_0 16 rfl rfl)
theorem dX0_isNeeded_19 : decode cX0_isNeeded 19 = .ok (.astore_n 3, 1) := dk_78 (dk_at dksX0_isNeeded_0 19 rfl rfl)
theorem dX0_isNeeded_20 : decode cX0_isNeeded 20 = .ok (.iconst 1, 1) := dk_4 (dk_at dksX0_isNeeded_0 20 rfl rfl)
theorem dX0_isNeeded_21 : decode cX0_isNeeded 21 = .ok (.ireturn, 1) := dk_172 (dk_at dksX0_isNeeded_0 21 rfl rfl)
theorem dX0_isNeeded_22 : decode cX0_isNeeded 22 = .ok (.astore_n 3, 1) := dk_78 (dk_at dksX0_isNeeded_0 22 rfl rfl)
theorem dX0_isNeeded_23 : decode cX0_isNeeded 23 = .ok (.iconst 2, 1) := dk_5 (dk_at dksX0_isNeeded_0 23 rfl rfl)
theorem dX0_isNeeded_24 : decode cX0_isNeeded 24 = .ok (.ireturn, 1) := dk_172 (dk_at dksX0_isNeeded_1 0 rfl rfl)
theorem dX0_isNeeded_25 : decode cX0_isNeeded 25 = .ok (.iconst 0, 1) := dk_3 (dk_at dksX0_isNeeded_1 1 rfl rfl)
theorem dX0_isNeeded_26 : decode cX0_isNeeded 26 = .ok (.ireturn, 1) := dk_172 (dk_at dksX0_isNeeded_1 2 rfl rfl)
abbrev cX0_appendText : ByteArray := method_24_code
def yX0_appendText : MethodName := ⟨RX0, "appendText", "(LEdgeLetters;J[J)I"⟩
def dkwX0_appendText_0 : List UInt8 := [45, 3, 42, 31, 182, 0, 84, 133, 80, 167, 0, 11, 58, 4, 4, 172, 58, 4, 5, 172, 3, 172]
abbrev dktX0_appendText_0 : List UInt8 := dkwX0_appendText_0 ++ []
theorem dksX0_appendText_0 : cX0_appendText.data.toList.drop 0 = dktX0_appendText_0 := by decide +kernel
theorem dX0_appendText_0 : decode cX0_appendText 0 = .ok (.aload_n 3, 1) := dk_45 (dk_at dksX0_appendText_0 0 rfl rfl)
theorem dX0_appendText_1 : decode cX0_appendText 1 = .ok (.iconst 0, 1) := dk_3 (dk_at dksX0_appendText_0 1 rfl rfl)
theorem dX0_appendText_2 : decode cX0_appendText 2 = .ok (.aload_n 0, 1) := dk_42 (dk_at dksX0_appendText_0 2 rfl rfl)
theorem dX0_appendText_3 : decode cX0_appendText 3 = .ok (.lload_n 1, 1) := dk_31 (dk_at dksX0_appendText_0 3 rfl rfl)
theorem dX0_appendText_4 : decode cX0_appendText 4 = .ok (.invokevirtual 84, 3) := dk_182 0 84 (dk_at dksX0_appendText_0 4 rfl rfl)
theorem dX0_appendText_7 : decode cX0_appendText 7 = .ok (.i2l, 1) := dk_133 (dk_at dksX0_appendText_0 7 rfl rfl)
theorem dX0_appendText_8 : decode cX0_appendText 8 = .ok (.lastore, 1) := dk_80 (dk_at dksX0_appendText_0 8 rfl rfl)
theorem dX0_appendText_9 : decode cX0_appendText 9 = .ok (.goto 11, 3) := dk_167 0 11 (dk_at dksX0_appendText_0 9 rfl rfl)
theorem dX0_appendText_12 : decode cX0_appendText 12 = .ok (.astore 4, 2) := dk_58 4 (dk_at dksX0_appendText_0 12 rfl rfl)
theorem dX0_appendText_14 : decode cX0_appendText 14 = .ok (.iconst 1, 1) := dk_4 (dk_at dksX0_appendText_0 14 rfl rfl)
theorem dX0_appendText_15 : decode cX0_appendText 15 = .ok (.ireturn, 1) := dk_172 (dk_at dksX0_appendText_0 15 rfl rfl)
theorem dX0_appendText_16 : decode cX0_appendText 16 = .ok (.astore 4, 2) := dk_58 4 (dk_at dksX0_appendText_0 16 rfl rfl)
theorem dX0_appendText_18 : decode cX0_appendText 18 = .ok (.iconst 2, 1) := dk_5 (dk_at dksX0_appendText_0 18 rfl rfl)
theorem dX0_appendText_19 : decode cX0_appendText 19 = .ok (.ireturn, 1) := dk_172 (dk_at dksX0_appendText_0 19 rfl rfl)
theorem dX0_appendText_20 : decode cX0_appendText 20 = .ok (.iconst 0, 1) := dk_3 (dk_at dksX0_appendText_0 20 rfl rfl)
theorem dX0_appendText_21 : decode cX0_appendText 21 = .ok (.ireturn, 1) := dk_172 (dk_at dksX0_appendText_0 21 rfl rfl)
abbrev cX0_runText : ByteArray := method_25_code
def yX0_runText : MethodName := ⟨RX0, "runText", "(LEdgeLetters;[J)I"⟩
def dkwX0_runText_0 : List UInt8 := [43, 3, 42, 182, 0, 88, 133, 80, 167, 0, 6, 77, 4, 172, 3, 172]
abbrev dktX0_runText_0 : List UInt8 := dkwX0_runText_0 ++ []
theorem dksX0_runText_0 : cX0_runText.data.toList.drop 0 = dktX0_runText_0 := by decide +kernel
theorem dX0_runText_0 : decode cX0_runText 0 = .ok (.aload_n 1, 1) := dk_43 (dk_at dksX0_runText_0 0 rfl rfl)
theorem dX0_runText_1 : decode cX0_runText 1 = .ok (.iconst 0, 1) := dk_3 (dk_at dksX0_runText_0 1 rfl rfl)
theorem dX0_runText_2 : decode cX0_runText 2 = .ok (.aload_n 0, 1) := dk_42 (dk_at dksX0_runText_0 2 rfl rfl)
theorem dX0_runText_3 : decode cX0_runText 3 = .ok (.invokevirtual 88, 3) := dk_182 0 88 (dk_at dksX0_runText_0 3 rfl rfl)
theorem dX0_runText_6 : decode cX0_runText 6 = .ok (.i2l, 1) := dk_133 (dk_at dksX0_runText_0 6 rfl rfl)
theorem dX0_runText_7 : decode cX0_runText 7 = .ok (.lastore, 1) := dk_80 (dk_at dksX0_runText_0 7 rfl rfl)
theorem dX0_runText_8 : decode cX0_runText 8 = .ok (.goto 6, 3) := dk_167 0 6 (dk_at dksX0_runText_0 8 rfl rfl)
theorem dX0_runText_11 : decode cX0_runText 11 = .ok (.astore_n 2, 1) := dk_77 (dk_at dksX0_runText_0 11 rfl rfl)
theorem dX0_runText_12 : decode cX0_runText 12 = .ok (.iconst 1, 1) := dk_4 (dk_at dksX0_runText_0 12 rfl rfl)
theorem dX0_runText_13 : decode cX0_runText 13 = .ok (.ireturn, 1) := dk_172 (dk_at dksX0_runText_0 13 rfl rfl)
theorem dX0_runText_14 : decode cX0_runText 14 = .ok (.iconst 0, 1) := dk_3 (dk_at dksX0_runText_0 14 rfl rfl)
theorem dX0_runText_15 : decode cX0_runText 15 = .ok (.ireturn, 1) := dk_172 (dk_at dksX0_runText_0 15 rfl rfl)
abbrev cX0_undo : ByteArray := method_26_code
def yX0_undo : MethodName := ⟨RX0, "undo", "(LEdgeLetters;[J)I"⟩
def dkwX0_undo_0 : List UInt8 := [43, 3, 42, 182, 0, 91, 133, 80, 167, 0, 6, 77, 4, 172, 3, 172]
abbrev dktX0_undo_0 : List UInt8 := dkwX0_undo_0 ++ []
theorem dksX0_undo_0 : cX0_undo.data.toList.drop 0 = dktX0_undo_0 := by decide +kernel
theorem dX0_undo_0 : decode cX0_undo 0 = .ok (.aload_n 1, 1) := dk_43 (dk_at dksX0_undo_0 0 rfl rfl)
theorem dX0_undo_1 : decode cX0_undo 1 = .ok (.iconst 0, 1) := dk_3 (dk_at dksX0_undo_0 1 rfl rfl)
theorem dX0_undo_2 : decode cX0_undo 2 = .ok (.aload_n 0, 1) := dk_42 (dk_at dksX0_undo_0 2 rfl rfl)
theorem dX0_undo_3 : decode cX0_undo 3 = .ok (.invokevirtual 91, 3) := dk_182 0 91 (dk_at dksX0_undo_0 3 rfl rfl)
theorem dX0_undo_6 : decode cX0_undo 6 = .ok (.i2l, 1) := dk_133 (dk_at dksX0_undo_0 6 rfl rfl)
theorem dX0_undo_7 : decode cX0_undo 7 = .ok (.lastore, 1) := dk_80 (dk_at dksX0_undo_0 7 rfl rfl)
theorem dX0_undo_8 : decode cX0_undo 8 = .ok (.goto 6, 3) := dk_167 0 6 (dk_at dksX0_undo_0 8 rfl rfl)
theorem dX0_undo_11 : decode cX0_undo 11 = .ok (.astore_n 2, 1) := dk_77 (dk_at dksX0_undo_0 11 rfl rfl)
theorem dX0_undo_12 : decode cX0_undo 12 = .ok (.iconst 1, 1) := dk_4 (dk_at dksX0_undo_0 12 rfl rfl)
theorem dX0_undo_13 : decode cX0_undo 13 = .ok (.ireturn, 1) := dk_172 (dk_at dksX0_undo_0 13 rfl rfl)
theorem dX0_undo_14 : decode cX0_undo 14 = .ok (.iconst 0, 1) := dk_3 (dk_at dksX0_undo_0 14 rfl rfl)
theorem dX0_undo_15 : decode cX0_undo 15 = .ok (.ireturn, 1) := dk_172 (dk_at dksX0_undo_0 15 rfl rfl)
abbrev cX0_saveState : ByteArray := method_27_code
def yX0_saveState : MethodName := ⟨RX0, "saveState", "(LEdgeLetters;I[J)I"⟩
def dkwX0_saveState_0 : List UInt8 := [44, 3, 42, 27, 182, 0, 94, 133, 80, 167, 0, 6, 78, 4, 172, 3, 172]
abbrev dktX0_saveState_0 : List UInt8 := dkwX0_saveState_0 ++ []
theorem dksX0_saveState_0 : cX0_saveState.data.toList.drop 0 = dktX0_saveState_0 := by decide +kernel
theorem dX0_saveState_0 : decode cX0_saveState 0 = .ok (.aload_n 2, 1) := dk_44 (dk_at dksX0_saveState_0 0 rfl rfl)
theorem dX0_saveState_1 : decode cX0_saveState 1 = .ok (.iconst 0, 1) := dk_3 (dk_at dksX0_saveState_0 1 rfl rfl)
theorem dX0_saveState_2 : decode cX0_saveState 2 = .ok (.aload_n 0, 1) := dk_42 (dk_at dksX0_saveState_0 2 rfl rfl)
theorem dX0_saveState_3 : decode cX0_saveState 3 = .ok (.iload_n 1, 1) := dk_27 (dk_at dksX0_saveState_0 3 rfl rfl)
theorem dX0_saveState_4 : decode cX0_saveState 4 = .ok (.invokevirtual 94, 3) := dk_182 0 94 (dk_at dksX0_saveState_0 4 rfl rfl)
theorem dX0_saveState_7 : decode cX0_saveState 7 = .ok (.i2l, 1) := dk_133 (dk_at dksX0_saveState_0 7 rfl rfl)
theorem dX0_saveState_8 : decode cX0_saveState 8 = .ok (.lastore, 1) := dk_80 (dk_at dksX0_saveState_0 8 rfl rfl)
theorem dX0_saveState_9 : decode cX0_saveState 9 = .ok (.goto 6, 3) := dk_167 0 6 (dk_at dksX0_saveState_0 9 rfl rfl)
theorem dX0_saveState_12 : decode cX0_saveState 12 = .ok (.astore_n 3, 1) := dk_78 (dk_at dksX0_saveState_0 12 rfl rfl)
theorem dX0_saveState_13 : decode cX0_saveState 13 = .ok (.iconst 1, 1) := dk_4 (dk_at dksX0_saveState_0 13 rfl rfl)
theorem dX0_saveState_14 : decode cX0_saveState 14 = .ok (.ireturn, 1) := dk_172 (dk_at dksX0_saveState_0 14 rfl rfl)
theorem dX0_saveState_15 : decode cX0_saveState 15 = .ok (.iconst 0, 1) := dk_3 (dk_at dksX0_saveState_0 15 rfl rfl)
theorem dX0_saveState_16 : decode cX0_saveState 16 = .ok (.ireturn, 1) := dk_172 (dk_at dksX0_saveState_0 16 rfl rfl)
abbrev cX0_loadState : ByteArray := method_28_code
def yX0_loadState : MethodName := ⟨RX0, "loadState", "(LEdgeLetters;I[J)I"⟩
def dkwX0_loadState_0 : List UInt8 := [44, 3, 42, 27, 182, 0, 97, 133, 80, 167, 0, 9, 78, 4, 172, 78, 5, 172, 3, 172]
abbrev dktX0_loadState_0 : List UInt8 := dkwX0_loadState_0 ++ []
theorem dksX0_loadState_0 : cX0_loadState.data.toList.drop 0 = dktX0_loadState_0 := by decide +kernel
theorem dX0_loadState_0 : decode cX0_loadState 0 = .ok (.aload_n 2, 1) := dk_44 (dk_at dksX0_loadState_0 0 rfl rfl)
theorem dX0_loadState_1 : decode cX0_loadState 1 = .ok (.iconst 0, 1) := dk_3 (dk_at dksX0_loadState_0 1 rfl rfl)
theorem dX0_loadState_2 : decode cX0_loadState 2 = .ok (.aload_n 0, 1) := dk_42 (dk_at dksX0_loadState_0 2 rfl rfl)
theorem dX0_loadState_3 : decode cX0_loadState 3 = .ok (.iload_n 1, 1) := dk_27 (dk_at dksX0_loadState_0 3 rfl rfl)
theorem dX0_loadState_4 : decode cX0_loadState 4 = .ok (.invokevirtual 97, 3) := dk_182 0 97 (dk_at dksX0_loadState_0 4 rfl rfl)
theorem dX0_loadState_7 : decode cX0_loadState 7 = .ok (.i2l, 1) := dk_133 (dk_at dksX0_loadState_0 7 rfl rfl)
theorem dX0_loadState_8 : decode cX0_loadState 8 = .ok (.lastore, 1) := dk_80 (dk_at dksX0_loadState_0 8 rfl rfl)
theorem dX0_loadState_9 : decode cX0_loadState 9 = .ok (.goto 9, 3) := dk_167 0 9 (dk_at dksX0_loadState_0 9 rfl rfl)
theorem dX0_loadState_12 : decode cX0_loadState 12 = .ok (.astore_n 3, 1) := dk_78 (dk_at dksX0_loadState_0 12 rfl rfl)
theorem dX0_loadState_13 : decode cX0_loadState 13 = .ok (.iconst 1, 1) := dk_4 (dk_at dksX0_loadState_0 13 rfl rfl)
theorem dX0_loadState_14 : decode cX0_loadState 14 = .ok (.ireturn, 1) := dk_172 (dk_at dksX0_loadState_0 14 rfl rfl)
theorem dX0_loadState_15 : decode cX0_loadState 15 = .ok (.astore_n 3, 1) := dk_78 (dk_at dksX0_loadState_0 15 rfl rfl)
theorem dX0_loadState_16 : decode cX0_loadState 16 = .ok (.iconst 2, 1) := dk_5 (dk_at dksX0_loadState_0 16 rfl rfl)
theorem dX0_loadState_17 : decode cX0_loadState 17 = .ok (.ireturn, 1) := dk_172 (dk_at dksX0_loadState_0 17 rfl rfl)
theorem dX0_loadState_18 : decode cX0_loadState 18 = .ok (.iconst 0, 1) := dk_3 (dk_at dksX0_loadState_0 18 rfl rfl)
theorem dX0_loadState_19 : decode cX0_loadState 19 = .ok (.ireturn, 1) := dk_172 (dk_at dksX0_loadState_0 19 rfl rfl)
theorem q118 : (Jvm.Cond.initialized "EdgeLettersLaw") ∈ lw_all := lw_g (lw_at lw_m1 0 rfl) rfl
theorem q153 : (Jvm.Cond.classLink "EdgeLettersLaw" (8 : Nat) "EdgeLetters") ∈ lw_all := lw_g (lw_at lw_m1 35 rfl) rfl
theorem q155 : (Jvm.Cond.methodLink "EdgeLettersLaw" (100 : Nat) ({ cls := "EdgeLetters", name := "<init>", desc := "()V" } : Jvm.MethodName)) ∈ lw_all := lw_g (lw_at lw_m1 37 rfl) rfl
theorem q460 : (Jvm.Cond.methodLink "EdgeLettersLaw" (113 : Nat) ({ cls := "EdgeLetters", name := "turnDiagonals", desc := "()Z" } : Jvm.MethodName)) ∈ lw_all := lw_g (lw_at lw_m2 102 rfl) rfl
theorem q523 : (Jvm.Cond.methodLink "EdgeLettersLaw" (126 : Nat) ({ cls := "EdgeLetters", name := "tellFirsts", desc := "()I" } : Jvm.MethodName)) ∈ lw_all := lw_g (lw_at lw_m2 165 rfl) rfl
theorem q567 : (Jvm.Cond.methodLink "EdgeLettersLaw" (133 : Nat) ({ cls := "EdgeLetters", name := "mirror", desc := "()I" } : Jvm.MethodName)) ∈ lw_all := lw_g (lw_at lw_m2 209 rfl) rfl
theorem q583 : (Jvm.Cond.methodLink "EdgeLettersLaw" (137 : Nat) ({ cls := "EdgeLetters", name := "side", desc := "()I" } : Jvm.MethodName)) ∈ lw_all := lw_g (lw_at lw_m2 225 rfl) rfl
theorem q587 : (Jvm.Cond.methodLink "EdgeLettersLaw" (141 : Nat) ({ cls := "EdgeLetters", name := "letterCount", desc := "()I" } : Jvm.MethodName)) ∈ lw_all := lw_g (lw_at lw_m2 229 rfl) rfl
theorem q591 : (Jvm.Cond.methodLink "EdgeLettersLaw" (145 : Nat) ({ cls := "EdgeLetters", name := "lineCount", desc := "()I" } : Jvm.MethodName)) ∈ lw_all := lw_g (lw_at lw_m2 233 rfl) rfl
theorem q596 : (Jvm.Cond.methodLink "EdgeLettersLaw" (149 : Nat) ({ cls := "EdgeLetters", name := "tellingCount", desc := "()I" } : Jvm.MethodName)) ∈ lw_all := lw_g (lw_at lw_m2 238 rfl) rfl
theorem q600 : (Jvm.Cond.methodLink "EdgeLettersLaw" (168 : Nat) ({ cls := "EdgeLetters", name := "clearCells", desc := "()I" } : Jvm.MethodName)) ∈ lw_all := lw_g (lw_at lw_m3 2 rfl) rfl
theorem q605 : (Jvm.Cond.methodLink "EdgeLettersLaw" (178 : Nat) ({ cls := "EdgeLetters", name := "settled", desc := "()J" } : Jvm.MethodName)) ∈ lw_all := lw_g (lw_at lw_m3 7 rfl) rfl
theorem q614 : (Jvm.Cond.methodLink "EdgeLettersLaw" (183 : Nat) ({ cls := "EdgeLetters", name := "isBroken", desc := "()Z" } : Jvm.MethodName)) ∈ lw_all := lw_g (lw_at lw_m3 16 rfl) rfl
theorem q670 : (Jvm.Cond.methodLink "EdgeLettersLaw" (187 : Nat) ({ cls := "EdgeLetters", name := "isSolved", desc := "()Z" } : Jvm.MethodName)) ∈ lw_all := lw_g (lw_at lw_m3 72 rfl) rfl
theorem q680 : (Jvm.Cond.methodLink "EdgeLettersLaw" (200 : Nat) ({ cls := "EdgeLetters", name := "brokenLines", desc := "()I" } : Jvm.MethodName)) ∈ lw_all := lw_g (lw_at lw_m3 82 rfl) rfl
theorem q688 : (Jvm.Cond.methodLink "EdgeLettersLaw" (210 : Nat) ({ cls := "EdgeLetters", name := "nextStep", desc := "()I" } : Jvm.MethodName)) ∈ lw_all := lw_g (lw_at lw_m3 90 rfl) rfl
theorem q759 : (Jvm.Cond.methodLink "EdgeLettersLaw" (224 : Nat) ({ cls := "EdgeLetters", name := "hardness", desc := "()I" } : Jvm.MethodName)) ∈ lw_all := lw_g (lw_at lw_m3 161 rfl) rfl
theorem q772 : (Jvm.Cond.methodLink "EdgeLettersLaw" (228 : Nat) ({ cls := "EdgeLetters", name := "solutionCount", desc := "()I" } : Jvm.MethodName)) ∈ lw_all := lw_g (lw_at lw_m3 174 rfl) rfl
theorem q829 : (Jvm.Cond.methodLink "EdgeLettersLaw" (232 : Nat) ({ cls := "EdgeLetters", name := "solutionCountByRows", desc := "()I" } : Jvm.MethodName)) ∈ lw_all := lw_g (lw_at lw_m3 231 rfl) rfl
theorem q843 : (Jvm.Cond.methodLink "EdgeLettersLaw" (239 : Nat) ({ cls := "EdgeLetters", name := "sameInAll", desc := "()J" } : Jvm.MethodName)) ∈ lw_all := lw_g (lw_at lw_m4 5 rfl) rfl
theorem q847 : (Jvm.Cond.methodLink "EdgeLettersLaw" (246 : Nat) ({ cls := "EdgeLetters", name := "crossedShare", desc := "()D" } : Jvm.MethodName)) ∈ lw_all := lw_g (lw_at lw_m4 9 rfl) rfl
theorem q855 : (Jvm.Cond.methodLink "EdgeLettersLaw" (257 : Nat) ({ cls := "EdgeLetters", name := "clearText", desc := "()I" } : Jvm.MethodName)) ∈ lw_all := lw_g (lw_at lw_m4 17 rfl) rfl
theorem q1188 : (Jvm.Cond.methodLink "EdgeLettersLaw" (261 : Nat) ({ cls := "EdgeLetters", name := "textLength", desc := "()I" } : Jvm.MethodName)) ∈ lw_all := lw_g (lw_at lw_m5 110 rfl) rfl
theorem q1192 : (Jvm.Cond.methodLink "EdgeLettersLaw" (265 : Nat) ({ cls := "EdgeLetters", name := "textError", desc := "()I" } : Jvm.MethodName)) ∈ lw_all := lw_g (lw_at lw_m5 114 rfl) rfl
theorem q1326 : (Jvm.Cond.methodLink "EdgeLettersLaw" (275 : Nat) ({ cls := "EdgeLetters", name := "undoCount", desc := "()I" } : Jvm.MethodName)) ∈ lw_all := lw_g (lw_at lw_m6 8 rfl) rfl
theorem q1330 : (Jvm.Cond.methodLink "EdgeLettersLaw" (104 : Nat) ({ cls := "EdgeLettersLaw", name := "start", desc := "(LEdgeLetters;II[J)I" } : Jvm.MethodName)) ∈ lw_all := lw_g (lw_at lw_m6 12 rfl) rfl
theorem q1331 : (Jvm.Cond.static ({ cls := "EdgeLettersLaw", name := "start", desc := "(LEdgeLetters;II[J)I" } : Jvm.MethodName)) ∈ lw_all := lw_g (lw_at lw_m6 13 rfl) rfl
theorem q1332 : (Jvm.Cond.codeWith ({ cls := "EdgeLettersLaw", name := "start", desc := "(LEdgeLetters;II[J)I" } : Jvm.MethodName) method_3_code (5 : Nat) (Option.some Jvm.ClassFile.FieldType.int) [((0 : Nat), (10 : Nat), (13 : Nat), (13 : Nat))]) ∈ lw_all := lw_g (lw_at lw_m6 14 rfl) rfl
theorem q1333 : (Jvm.Cond.classLink "EdgeLettersLaw" (13 : Nat) "java/lang/IllegalArgumentException") ∈ lw_all := lw_g (lw_at lw_m6 15 rfl) rfl
theorem q1334 : (Jvm.Cond.methodLink "EdgeLettersLaw" (7 : Nat) ({ cls := "EdgeLetters", name := "start", desc := "(II)I" } : Jvm.MethodName)) ∈ lw_all := lw_g (lw_at lw_m6 16 rfl) rfl
theorem q1354 : (Jvm.Cond.methodLink "EdgeLettersLaw" (118 : Nat) ({ cls := "EdgeLettersLaw", name := "setTelling", desc := "(LEdgeLetters;IIZ[J)I" } : Jvm.MethodName)) ∈ lw_all := lw_g (lw_at lw_m6 36 rfl) rfl
theorem q1355 : (Jvm.Cond.static ({ cls := "EdgeLettersLaw", name := "setTelling", desc := "(LEdgeLetters;IIZ[J)I" } : Jvm.MethodName)) ∈ lw_all := lw_g (lw_at lw_m6 37 rfl) rfl
theorem q1356 : (Jvm.Cond.codeWith ({ cls := "EdgeLettersLaw", name := "setTelling", desc := "(LEdgeLetters;IIZ[J)I" } : Jvm.MethodName) method_4_code (6 : Nat) (Option.some Jvm.ClassFile.FieldType.int) [((0 : Nat), (12 : Nat), (15 : Nat), (19 : Nat)), ((0 : Nat), (12 : Nat), (19 : Nat), (13 : Nat))]) ∈ lw_all := lw_g (lw_at lw_m6 38 rfl) rfl
theorem q1357 : (Jvm.Cond.classLink "EdgeLettersLaw" (19 : Nat) "java/lang/IndexOutOfBoundsException") ∈ lw_all := lw_g (lw_at lw_m6 39 rfl) rfl
theorem q1360 : (Jvm.Cond.methodLink "EdgeLettersLaw" (15 : Nat) ({ cls := "EdgeLetters", name := "setTelling", desc := "(IIZ)I" } : Jvm.MethodName)) ∈ lw_all := lw_g (lw_at lw_m6 42 rfl) rfl
theorem q1394 : (Jvm.Cond.methodLink "EdgeLettersLaw" (122 : Nat) ({ cls := "EdgeLettersLaw", name := "clearTelling", desc := "(LEdgeLetters;I[J)I" } : Jvm.MethodName)) ∈ lw_all := lw_g (lw_at lw_m6 76 rfl) rfl
theorem q1395 : (Jvm.Cond.static ({ cls := "EdgeLettersLaw", name := "clearTelling", desc := "(LEdgeLetters;I[J)I" } : Jvm.MethodName)) ∈ lw_all := lw_g (lw_at lw_m6 77 rfl) rfl
theorem q1396 : (Jvm.Cond.codeWith ({ cls := "EdgeLettersLaw", name := "clearTelling", desc := "(LEdgeLetters;I[J)I" } : Jvm.MethodName) method_5_code (4 : Nat) (Option.some Jvm.ClassFile.FieldType.int) [((0 : Nat), (9 : Nat), (12 : Nat), (19 : Nat)), ((0 : Nat), (9 : Nat), (15 : Nat), (25 : Nat))]) ∈ lw_all := lw_g (lw_at lw_m6 78 rfl) rfl
theorem q1397 : (Jvm.Cond.classLink "EdgeLettersLaw" (25 : Nat) "java/lang/IllegalStateException") ∈ lw_all := lw_g (lw_at lw_m6 79 rfl) rfl
theorem q1398 : (Jvm.Cond.methodLink "EdgeLettersLaw" (21 : Nat) ({ cls := "EdgeLetters", name := "clearTelling", desc := "(I)I" } : Jvm.MethodName)) ∈ lw_all := lw_g (lw_at lw_m6 80 rfl) rfl
theorem q1424 : (Jvm.Cond.methodLink "EdgeLettersLaw" (130 : Nat) ({ cls := "EdgeLettersLaw", name := "exchange", desc := "(LEdgeLetters;II[J)I" } : Jvm.MethodName)) ∈ lw_all := lw_g (lw_at lw_m6 106 rfl) rfl
theorem q1425 : (Jvm.Cond.static ({ cls := "EdgeLettersLaw", name := "exchange", desc := "(LEdgeLetters;II[J)I" } : Jvm.MethodName)) ∈ lw_all := lw_g (lw_at lw_m6 107 rfl) rfl
theorem q1426 : (Jvm.Cond.codeWith ({ cls := "EdgeLettersLaw", name := "exchange", desc := "(LEdgeLetters;II[J)I" } : Jvm.MethodName) method_6_code (5 : Nat) (Option.some Jvm.ClassFile.FieldType.int) [((0 : Nat), (10 : Nat), (13 : Nat), (13 : Nat))]) ∈ lw_all := lw_g (lw_at lw_m6 108 rfl) rfl
theorem q1427 : (Jvm.Cond.methodLink "EdgeLettersLaw" (27 : Nat) ({ cls := "EdgeLetters", name := "exchange", desc := "(II)I" } : Jvm.MethodName)) ∈ lw_all := lw_g (lw_at lw_m6 109 rfl) rfl
theorem q1439 : (Jvm.Cond.methodLink "EdgeLettersLaw" (153 : Nat) ({ cls := "EdgeLettersLaw", name := "tellingAt", desc := "(LEdgeLetters;I[J)I" } : Jvm.MethodName)) ∈ lw_all := lw_g (lw_at lw_m6 121 rfl) rfl
theorem q1440 : (Jvm.Cond.static ({ cls := "EdgeLettersLaw", name := "tellingAt", desc := "(LEdgeLetters;I[J)I" } : Jvm.MethodName)) ∈ lw_all := lw_g (lw_at lw_m6 122 rfl) rfl
theorem q1441 : (Jvm.Cond.codeWith ({ cls := "EdgeLettersLaw", name := "tellingAt", desc := "(LEdgeLetters;I[J)I" } : Jvm.MethodName) method_7_code (4 : Nat) (Option.some Jvm.ClassFile.FieldType.int) [((0 : Nat), (9 : Nat), (12 : Nat), (19 : Nat))]) ∈ lw_all := lw_g (lw_at lw_m6 123 rfl) rfl
theorem q1442 : (Jvm.Cond.methodLink "EdgeLettersLaw" (30 : Nat) ({ cls := "EdgeLetters", name := "tellingAt", desc := "(I)I" } : Jvm.MethodName)) ∈ lw_all := lw_g (lw_at lw_m6 124 rfl) rfl
theorem q1446 : (Jvm.Cond.methodLink "EdgeLettersLaw" (156 : Nat) ({ cls := "EdgeLettersLaw", name := "isSecond", desc := "(LEdgeLetters;I[J)I" } : Jvm.MethodName)) ∈ lw_all := lw_g (lw_at lw_m6 128 rfl) rfl
theorem q1447 : (Jvm.Cond.static ({ cls := "EdgeLettersLaw", name := "isSecond", desc := "(LEdgeLetters;I[J)I" } : Jvm.MethodName)) ∈ lw_all := lw_g (lw_at lw_m6 129 rfl) rfl
theorem q1448 : (Jvm.Cond.codeWith ({ cls := "EdgeLettersLaw", name := "isSecond", desc := "(LEdgeLetters;I[J)I" } : Jvm.MethodName) method_8_code (4 : Nat) (Option.some Jvm.ClassFile.FieldType.int) [((0 : Nat), (16 : Nat), (19 : Nat), (19 : Nat))]) ∈ lw_all := lw_g (lw_at lw_m6 130 rfl) rfl
theorem q1449 : (Jvm.Cond.methodLink "EdgeLettersLaw" (33 : Nat) ({ cls := "EdgeLetters", name := "isSecond", desc := "(I)Z" } : Jvm.MethodName)) ∈ lw_all := lw_g (lw_at lw_m6 131 rfl) rfl
theorem q1453 : (Jvm.Cond.methodLink "EdgeLettersLaw" (159 : Nat) ({ cls := "EdgeLettersLaw", name := "cellOf", desc := "(LEdgeLetters;II[J)I" } : Jvm.MethodName)) ∈ lw_all := lw_g (lw_at lw_m6 135 rfl) rfl
theorem q1454 : (Jvm.Cond.static ({ cls := "EdgeLettersLaw", name := "cellOf", desc := "(LEdgeLetters;II[J)I" } : Jvm.MethodName)) ∈ lw_all := lw_g (lw_at lw_m6 136 rfl) rfl
theorem q1455 : (Jvm.Cond.codeWith ({ cls := "EdgeLettersLaw", name := "cellOf", desc := "(LEdgeLetters;II[J)I" } : Jvm.MethodName) method_9_code (5 : Nat) (Option.some Jvm.ClassFile.FieldType.int) [((0 : Nat), (10 : Nat), (13 : Nat), (19 : Nat))]) ∈ lw_all := lw_g (lw_at lw_m6 137 rfl) rfl
theorem q1456 : (Jvm.Cond.methodLink "EdgeLettersLaw" (37 : Nat) ({ cls := "EdgeLetters", name := "cellOf", desc := "(II)I" } : Jvm.MethodName)) ∈ lw_all := lw_g (lw_at lw_m6 138 rfl) rfl
theorem q1468 : (Jvm.Cond.methodLink "EdgeLettersLaw" (162 : Nat) ({ cls := "EdgeLettersLaw", name := "put", desc := "(LEdgeLetters;II[J)I" } : Jvm.MethodName)) ∈ lw_all := lw_g (lw_at lw_m6 150 rfl) rfl
theorem q1469 : (Jvm.Cond.static ({ cls := "EdgeLettersLaw", name := "put", desc := "(LEdgeLetters;II[J)I" } : Jvm.MethodName)) ∈ lw_all := lw_g (lw_at lw_m6 151 rfl) rfl
theorem q1470 : (Jvm.Cond.codeWith ({ cls := "EdgeLettersLaw", name := "put", desc := "(LEdgeLetters;II[J)I" } : Jvm.MethodName) method_10_code (5 : Nat) (Option.some Jvm.ClassFile.FieldType.int) [((0 : Nat), (10 : Nat), (13 : Nat), (19 : Nat)), ((0 : Nat), (10 : Nat), (17 : Nat), (13 : Nat))]) ∈ lw_all := lw_g (lw_at lw_m6 152 rfl) rfl
theorem q1471 : (Jvm.Cond.methodLink "EdgeLettersLaw" (40 : Nat) ({ cls := "EdgeLetters", name := "put", desc := "(II)I" } : Jvm.MethodName)) ∈ lw_all := lw_g (lw_at lw_m6 153 rfl) rfl
theorem q1487 : (Jvm.Cond.methodLink "EdgeLettersLaw" (165 : Nat) ({ cls := "EdgeLettersLaw", name := "crossOut", desc := "(LEdgeLetters;II[J)I" } : Jvm.MethodName)) ∈ lw_all := lw_g (lw_at lw_m6 169 rfl) rfl
theorem q1488 : (Jvm.Cond.static ({ cls := "EdgeLettersLaw", name := "crossOut", desc := "(LEdgeLetters;II[J)I" } : Jvm.MethodName)) ∈ lw_all := lw_g (lw_at lw_m6 170 rfl) rfl
theorem q1489 : (Jvm.Cond.codeWith ({ cls := "EdgeLettersLaw", name := "crossOut", desc := "(LEdgeLetters;II[J)I" } : Jvm.MethodName) method_11_code (5 : Nat) (Option.some Jvm.ClassFile.FieldType.int) [((0 : Nat), (10 : Nat), (13 : Nat), (19 : Nat)), ((0 : Nat), (10 : Nat), (17 : Nat), (13 : Nat)), ((0 : Nat), (10 : Nat), (21 : Nat), (25 : Nat))]) ∈ lw_all := lw_g (lw_at lw_m6 171 rfl) rfl
theorem q1490 : (Jvm.Cond.methodLink "EdgeLettersLaw" (43 : Nat) ({ cls := "EdgeLetters", name := "crossOut", desc := "(II)I" } : Jvm.MethodName)) ∈ lw_all := lw_g (lw_at lw_m6 172 rfl) rfl
theorem q1498 : (Jvm.Cond.methodLink "EdgeLettersLaw" (172 : Nat) ({ cls := "EdgeLettersLaw", name := "thingsOf", desc := "(LEdgeLetters;I[J)I" } : Jvm.MethodName)) ∈ lw_all := lw_g (lw_at lw_m6 180 rfl) rfl
theorem q1499 : (Jvm.Cond.static ({ cls := "EdgeLettersLaw", name := "thingsOf", desc := "(LEdgeLetters;I[J)I" } : Jvm.MethodName)) ∈ lw_all := lw_g (lw_at lw_m6 181 rfl) rfl
theorem q1500 : (Jvm.Cond.codeWith ({ cls := "EdgeLettersLaw", name := "thingsOf", desc := "(LEdgeLetters;I[J)I" } : Jvm.MethodName) method_12_code (4 : Nat) (Option.some Jvm.ClassFile.FieldType.int) [((0 : Nat), (9 : Nat), (12 : Nat), (19 : Nat))]) ∈ lw_all := lw_g (lw_at lw_m6 182 rfl) rfl
theorem q1501 : (Jvm.Cond.methodLink "EdgeLettersLaw" (46 : Nat) ({ cls := "EdgeLetters", name := "thingsOf", desc := "(I)I" } : Jvm.MethodName)) ∈ lw_all := lw_g (lw_at lw_m6 183 rfl) rfl
theorem q1505 : (Jvm.Cond.methodLink "EdgeLettersLaw" (175 : Nat) ({ cls := "EdgeLettersLaw", name := "cellsWith", desc := "(LEdgeLetters;I[J)I" } : Jvm.MethodName)) ∈ lw_all := lw_g (lw_at lw_m6 187 rfl) rfl
theorem q1506 : (Jvm.Cond.static ({ cls := "EdgeLettersLaw", name := "cellsWith", desc := "(LEdgeLetters;I[J)I" } : Jvm.MethodName)) ∈ lw_all := lw_g (lw_at lw_m6 188 rfl) rfl
theorem q1507 : (Jvm.Cond.codeWith ({ cls := "EdgeLettersLaw", name := "cellsWith", desc := "(LEdgeLetters;I[J)I" } : Jvm.MethodName) method_13_code (4 : Nat) (Option.some Jvm.ClassFile.FieldType.int) [((0 : Nat), (8 : Nat), (11 : Nat), (13 : Nat))]) ∈ lw_all := lw_g (lw_at lw_m6 189 rfl) rfl
theorem q1508 : (Jvm.Cond.methodLink "EdgeLettersLaw" (49 : Nat) ({ cls := "EdgeLetters", name := "cellsWith", desc := "(I)J" } : Jvm.MethodName)) ∈ lw_all := lw_g (lw_at lw_m6 190 rfl) rfl
theorem q1512 : (Jvm.Cond.methodLink "EdgeLettersLaw" (191 : Nat) ({ cls := "EdgeLettersLaw", name := "arrangements", desc := "(LEdgeLetters;I[J)I" } : Jvm.MethodName)) ∈ lw_all := lw_g (lw_at lw_m6 194 rfl) rfl
theorem q1513 : (Jvm.Cond.static ({ cls := "EdgeLettersLaw", name := "arrangements", desc := "(LEdgeLetters;I[J)I" } : Jvm.MethodName)) ∈ lw_all := lw_g (lw_at lw_m6 195 rfl) rfl
theorem q1514 : (Jvm.Cond.codeWith ({ cls := "EdgeLettersLaw", name := "arrangements", desc := "(LEdgeLetters;I[J)I" } : Jvm.MethodName) method_14_code (4 : Nat) (Option.some Jvm.ClassFile.FieldType.int) [((0 : Nat), (9 : Nat), (12 : Nat), (19 : Nat))]) ∈ lw_all := lw_g (lw_at lw_m6 196 rfl) rfl
theorem q1515 : (Jvm.Cond.methodLink "EdgeLettersLaw" (53 : Nat) ({ cls := "EdgeLetters", name := "arrangements", desc := "(I)I" } : Jvm.MethodName)) ∈ lw_all := lw_g (lw_at lw_m6 197 rfl) rfl
theorem q1569 : (Jvm.Cond.methodLink "EdgeLettersLaw" (194 : Nat) ({ cls := "EdgeLettersLaw", name := "arrangementsByCells", desc := "(LEdgeLetters;I[J)I" } : Jvm.MethodName)) ∈ lw_all := lw_g (lw_at lw_m7 11 rfl) rfl
theorem q1570 : (Jvm.Cond.static ({ cls := "EdgeLettersLaw", name := "arrangementsByCells", desc := "(LEdgeLetters;I[J)I" } : Jvm.MethodName)) ∈ lw_all := lw_g (lw_at lw_m7 12 rfl) rfl
theorem q1571 : (Jvm.Cond.codeWith ({ cls := "EdgeLettersLaw", name := "arrangementsByCells", desc := "(LEdgeLetters;I[J)I" } : Jvm.MethodName) method_15_code (4 : Nat) (Option.some Jvm.ClassFile.FieldType.int) [((0 : Nat), (9 : Nat), (12 : Nat), (19 : Nat))]) ∈ lw_all := lw_g (lw_at lw_m7 13 rfl) rfl
theorem q1572 : (Jvm.Cond.methodLink "EdgeLettersLaw" (56 : Nat) ({ cls := "EdgeLetters", name := "arrangementsByCells", desc := "(I)I" } : Jvm.MethodName)) ∈ lw_all := lw_g (lw_at lw_m7 14 rfl) rfl
theorem q1581 : (Jvm.Cond.methodLink "EdgeLettersLaw" (197 : Nat) ({ cls := "EdgeLettersLaw", name := "thingsIn", desc := "(LEdgeLetters;II[J)I" } : Jvm.MethodName)) ∈ lw_all := lw_g (lw_at lw_m7 23 rfl) rfl
theorem q1582 : (Jvm.Cond.static ({ cls := "EdgeLettersLaw", name := "thingsIn", desc := "(LEdgeLetters;II[J)I" } : Jvm.MethodName)) ∈ lw_all := lw_g (lw_at lw_m7 24 rfl) rfl
theorem q1583 : (Jvm.Cond.codeWith ({ cls := "EdgeLettersLaw", name := "thingsIn", desc := "(LEdgeLetters;II[J)I" } : Jvm.MethodName) method_16_code (5 : Nat) (Option.some Jvm.ClassFile.FieldType.int) [((0 : Nat), (10 : Nat), (13 : Nat), (19 : Nat))]) ∈ lw_all := lw_g (lw_at lw_m7 25 rfl) rfl
theorem q1584 : (Jvm.Cond.methodLink "EdgeLettersLaw" (59 : Nat) ({ cls := "EdgeLetters", name := "thingsIn", desc := "(II)I" } : Jvm.MethodName)) ∈ lw_all := lw_g (lw_at lw_m7 26 rfl) rfl
theorem q1589 : (Jvm.Cond.methodLink "EdgeLettersLaw" (204 : Nat) ({ cls := "EdgeLettersLaw", name := "seenFrom", desc := "(LEdgeLetters;II[J)I" } : Jvm.MethodName)) ∈ lw_all := lw_g (lw_at lw_m7 31 rfl) rfl
theorem q1590 : (Jvm.Cond.static ({ cls := "EdgeLettersLaw", name := "seenFrom", desc := "(LEdgeLetters;II[J)I" } : Jvm.MethodName)) ∈ lw_all := lw_g (lw_at lw_m7 32 rfl) rfl
theorem q1591 : (Jvm.Cond.codeWith ({ cls := "EdgeLettersLaw", name := "seenFrom", desc := "(LEdgeLetters;II[J)I" } : Jvm.MethodName) method_17_code (5 : Nat) (Option.some Jvm.ClassFile.FieldType.int) [((0 : Nat), (10 : Nat), (13 : Nat), (19 : Nat))]) ∈ lw_all := lw_g (lw_at lw_m7 33 rfl) rfl
theorem q1592 : (Jvm.Cond.methodLink "EdgeLettersLaw" (62 : Nat) ({ cls := "EdgeLetters", name := "seenFrom", desc := "(II)I" } : Jvm.MethodName)) ∈ lw_all := lw_g (lw_at lw_m7 34 rfl) rfl
theorem q1596 : (Jvm.Cond.methodLink "EdgeLettersLaw" (207 : Nat) ({ cls := "EdgeLettersLaw", name := "reasonFor", desc := "(LEdgeLetters;II[J)I" } : Jvm.MethodName)) ∈ lw_all := lw_g (lw_at lw_m7 38 rfl) rfl
theorem q1597 : (Jvm.Cond.static ({ cls := "EdgeLettersLaw", name := "reasonFor", desc := "(LEdgeLetters;II[J)I" } : Jvm.MethodName)) ∈ lw_all := lw_g (lw_at lw_m7 39 rfl) rfl
theorem q1598 : (Jvm.Cond.codeWith ({ cls := "EdgeLettersLaw", name := "reasonFor", desc := "(LEdgeLetters;II[J)I" } : Jvm.MethodName) method_18_code (5 : Nat) (Option.some Jvm.ClassFile.FieldType.int) [((0 : Nat), (10 : Nat), (13 : Nat), (19 : Nat)), ((0 : Nat), (10 : Nat), (17 : Nat), (13 : Nat))]) ∈ lw_all := lw_g (lw_at lw_m7 40 rfl) rfl
theorem q1599 : (Jvm.Cond.methodLink "EdgeLettersLaw" (65 : Nat) ({ cls := "EdgeLetters", name := "reasonFor", desc := "(II)I" } : Jvm.MethodName)) ∈ lw_all := lw_g (lw_at lw_m7 41 rfl) rfl
theorem q1607 : (Jvm.Cond.methodLink "EdgeLettersLaw" (214 : Nat) ({ cls := "EdgeLettersLaw", name := "step", desc := "(LEdgeLetters;[J)I" } : Jvm.MethodName)) ∈ lw_all := lw_g (lw_at lw_m7 49 rfl) rfl
theorem q1608 : (Jvm.Cond.static ({ cls := "EdgeLettersLaw", name := "step", desc := "(LEdgeLetters;[J)I" } : Jvm.MethodName)) ∈ lw_all := lw_g (lw_at lw_m7 50 rfl) rfl
theorem q1609 : (Jvm.Cond.codeWith ({ cls := "EdgeLettersLaw", name := "step", desc := "(LEdgeLetters;[J)I" } : Jvm.MethodName) method_19_code (3 : Nat) (Option.some Jvm.ClassFile.FieldType.int) [((0 : Nat), (8 : Nat), (11 : Nat), (25 : Nat))]) ∈ lw_all := lw_g (lw_at lw_m7 51 rfl) rfl
theorem q1610 : (Jvm.Cond.methodLink "EdgeLettersLaw" (68 : Nat) ({ cls := "EdgeLetters", name := "step", desc := "()I" } : Jvm.MethodName)) ∈ lw_all := lw_g (lw_at lw_m7 52 rfl) rfl
theorem q1615 : (Jvm.Cond.methodLink "EdgeLettersLaw" (218 : Nat) ({ cls := "EdgeLettersLaw", name := "stepAll", desc := "(LEdgeLetters;I[J)I" } : Jvm.MethodName)) ∈ lw_all := lw_g (lw_at lw_m7 57 rfl) rfl
theorem q1616 : (Jvm.Cond.static ({ cls := "EdgeLettersLaw", name := "stepAll", desc := "(LEdgeLetters;I[J)I" } : Jvm.MethodName)) ∈ lw_all := lw_g (lw_at lw_m7 58 rfl) rfl
theorem q1617 : (Jvm.Cond.codeWith ({ cls := "EdgeLettersLaw", name := "stepAll", desc := "(LEdgeLetters;I[J)I" } : Jvm.MethodName) method_20_code (4 : Nat) (Option.some Jvm.ClassFile.FieldType.int) [((0 : Nat), (9 : Nat), (12 : Nat), (13 : Nat))]) ∈ lw_all := lw_g (lw_at lw_m7 59 rfl) rfl
theorem q1618 : (Jvm.Cond.methodLink "EdgeLettersLaw" (72 : Nat) ({ cls := "EdgeLetters", name := "stepAll", desc := "(I)I" } : Jvm.MethodName)) ∈ lw_all := lw_g (lw_at lw_m7 60 rfl) rfl
theorem q1625 : (Jvm.Cond.methodLink "EdgeLettersLaw" (221 : Nat) ({ cls := "EdgeLettersLaw", name := "stepsUpTo", desc := "(LEdgeLetters;I[J)I" } : Jvm.MethodName)) ∈ lw_all := lw_g (lw_at lw_m7 67 rfl) rfl
theorem q1626 : (Jvm.Cond.static ({ cls := "EdgeLettersLaw", name := "stepsUpTo", desc := "(LEdgeLetters;I[J)I" } : Jvm.MethodName)) ∈ lw_all := lw_g (lw_at lw_m7 68 rfl) rfl
theorem q1627 : (Jvm.Cond.codeWith ({ cls := "EdgeLettersLaw", name := "stepsUpTo", desc := "(LEdgeLetters;I[J)I" } : Jvm.MethodName) method_21_code (4 : Nat) (Option.some Jvm.ClassFile.FieldType.int) [((0 : Nat), (9 : Nat), (12 : Nat), (13 : Nat))]) ∈ lw_all := lw_g (lw_at lw_m7 69 rfl) rfl
theorem q1628 : (Jvm.Cond.methodLink "EdgeLettersLaw" (75 : Nat) ({ cls := "EdgeLetters", name := "stepsUpTo", desc := "(I)I" } : Jvm.MethodName)) ∈ lw_all := lw_g (lw_at lw_m7 70 rfl) rfl
theorem q1632 : (Jvm.Cond.methodLink "EdgeLettersLaw" (236 : Nat) ({ cls := "EdgeLettersLaw", name := "firstThing", desc := "(LEdgeLetters;I[J)I" } : Jvm.MethodName)) ∈ lw_all := lw_g (lw_at lw_m7 74 rfl) rfl
theorem q1633 : (Jvm.Cond.static ({ cls := "EdgeLettersLaw", name := "firstThing", desc := "(LEdgeLetters;I[J)I" } : Jvm.MethodName)) ∈ lw_all := lw_g (lw_at lw_m7 75 rfl) rfl
theorem q1634 : (Jvm.Cond.codeWith ({ cls := "EdgeLettersLaw", name := "firstThing", desc := "(LEdgeLetters;I[J)I" } : Jvm.MethodName) method_22_code (4 : Nat) (Option.some Jvm.ClassFile.FieldType.int) [((0 : Nat), (9 : Nat), (12 : Nat), (19 : Nat))]) ∈ lw_all := lw_g (lw_at lw_m7 76 rfl) rfl
theorem q1635 : (Jvm.Cond.methodLink "EdgeLettersLaw" (78 : Nat) ({ cls := "EdgeLetters", name := "firstThing", desc := "(I)I" } : Jvm.MethodName)) ∈ lw_all := lw_g (lw_at lw_m7 77 rfl) rfl
theorem q1639 : (Jvm.Cond.methodLink "EdgeLettersLaw" (243 : Nat) ({ cls := "EdgeLettersLaw", name := "isNeeded", desc := "(LEdgeLetters;I[J)I" } : Jvm.MethodName)) ∈ lw_all := lw_g (lw_at lw_m7 81 rfl) rfl
theorem q1640 : (Jvm.Cond.static ({ cls := "EdgeLettersLaw", name := "isNeeded", desc := "(LEdgeLetters;I[J)I" } : Jvm.MethodName)) ∈ lw_all := lw_g (lw_at lw_m7 82 rfl) rfl
theorem q1641 : (Jvm.Cond.codeWith ({ cls := "EdgeLettersLaw", name := "isNeeded", desc := "(LEdgeLetters;I[J)I" } : Jvm.MethodName) method_23_code (4 : Nat) (Option.some Jvm.ClassFile.FieldType.int) [((0 : Nat), (16 : Nat), (19 : Nat), (19 : Nat)), ((0 : Nat), (16 : Nat), (22 : Nat), (25 : Nat))]) ∈ lw_all := lw_g (lw_at lw_m7 83 rfl) rfl
theorem q1642 : (Jvm.Cond.methodLink "EdgeLettersLaw" (81 : Nat) ({ cls := "EdgeLetters", name := "isNeeded", desc := "(I)Z" } : Jvm.MethodName)) ∈ lw_all := lw_g (lw_at lw_m7 84 rfl) rfl
theorem q1647 : (Jvm.Cond.methodLink "EdgeLettersLaw" (253 : Nat) ({ cls := "EdgeLettersLaw", name := "appendText", desc := "(LEdgeLetters;J[J)I" } : Jvm.MethodName)) ∈ lw_all := lw_g (lw_at lw_m7 89 rfl) rfl
theorem q1648 : (Jvm.Cond.static ({ cls := "EdgeLettersLaw", name := "appendText", desc := "(LEdgeLetters;J[J)I" } : Jvm.MethodName)) ∈ lw_all := lw_g (lw_at lw_m7 90 rfl) rfl
theorem q1649 : (Jvm.Cond.codeWith ({ cls := "EdgeLettersLaw", name := "appendText", desc := "(LEdgeLetters;J[J)I" } : Jvm.MethodName) method_24_code (5 : Nat) (Option.some Jvm.ClassFile.FieldType.int) [((0 : Nat), (9 : Nat), (12 : Nat), (13 : Nat)), ((0 : Nat), (9 : Nat), (16 : Nat), (25 : Nat))]) ∈ lw_all := lw_g (lw_at lw_m7 91 rfl) rfl
theorem q1650 : (Jvm.Cond.methodLink "EdgeLettersLaw" (84 : Nat) ({ cls := "EdgeLetters", name := "appendText", desc := "(J)I" } : Jvm.MethodName)) ∈ lw_all := lw_g (lw_at lw_m7 92 rfl) rfl
theorem q1672 : (Jvm.Cond.methodLink "EdgeLettersLaw" (269 : Nat) ({ cls := "EdgeLettersLaw", name := "runText", desc := "(LEdgeLetters;[J)I" } : Jvm.MethodName)) ∈ lw_all := lw_g (lw_at lw_m7 114 rfl) rfl
theorem q1673 : (Jvm.Cond.static ({ cls := "EdgeLettersLaw", name := "runText", desc := "(LEdgeLetters;[J)I" } : Jvm.MethodName)) ∈ lw_all := lw_g (lw_at lw_m7 115 rfl) rfl
theorem q1674 : (Jvm.Cond.codeWith ({ cls := "EdgeLettersLaw", name := "runText", desc := "(LEdgeLetters;[J)I" } : Jvm.MethodName) method_25_code (3 : Nat) (Option.some Jvm.ClassFile.FieldType.int) [((0 : Nat), (8 : Nat), (11 : Nat), (25 : Nat))]) ∈ lw_all := lw_g (lw_at lw_m7 116 rfl) rfl
theorem q1675 : (Jvm.Cond.methodLink "EdgeLettersLaw" (88 : Nat) ({ cls := "EdgeLetters", name := "runText", desc := "()I" } : Jvm.MethodName)) ∈ lw_all := lw_g (lw_at lw_m7 117 rfl) rfl
theorem q1690 : (Jvm.Cond.methodLink "EdgeLettersLaw" (272 : Nat) ({ cls := "EdgeLettersLaw", name := "undo", desc := "(LEdgeLetters;[J)I" } : Jvm.MethodName)) ∈ lw_all := lw_g (lw_at lw_m7 132 rfl) rfl
theorem q1691 : (Jvm.Cond.static ({ cls := "EdgeLettersLaw", name := "undo", desc := "(LEdgeLetters;[J)I" } : Jvm.MethodName)) ∈ lw_all := lw_g (lw_at lw_m7 133 rfl) rfl
theorem q1692 : (Jvm.Cond.codeWith ({ cls := "EdgeLettersLaw", name := "undo", desc := "(LEdgeLetters;[J)I" } : Jvm.MethodName) method_26_code (3 : Nat) (Option.some Jvm.ClassFile.FieldType.int) [((0 : Nat), (8 : Nat), (11 : Nat), (25 : Nat))]) ∈ lw_all := lw_g (lw_at lw_m7 134 rfl) rfl
theorem q1693 : (Jvm.Cond.methodLink "EdgeLettersLaw" (91 : Nat) ({ cls := "EdgeLetters", name := "undo", desc := "()I" } : Jvm.MethodName)) ∈ lw_all := lw_g (lw_at lw_m7 135 rfl) rfl
theorem q1707 : (Jvm.Cond.methodLink "EdgeLettersLaw" (279 : Nat) ({ cls := "EdgeLettersLaw", name := "saveState", desc := "(LEdgeLetters;I[J)I" } : Jvm.MethodName)) ∈ lw_all := lw_g (lw_at lw_m7 149 rfl) rfl
theorem q1708 : (Jvm.Cond.static ({ cls := "EdgeLettersLaw", name := "saveState", desc := "(LEdgeLetters;I[J)I" } : Jvm.MethodName)) ∈ lw_all := lw_g (lw_at lw_m7 150 rfl) rfl
theorem q1709 : (Jvm.Cond.codeWith ({ cls := "EdgeLettersLaw", name := "saveState", desc := "(LEdgeLetters;I[J)I" } : Jvm.MethodName) method_27_code (4 : Nat) (Option.some Jvm.ClassFile.FieldType.int) [((0 : Nat), (9 : Nat), (12 : Nat), (19 : Nat))]) ∈ lw_all := lw_g (lw_at lw_m7 151 rfl) rfl
theorem q1710 : (Jvm.Cond.methodLink "EdgeLettersLaw" (94 : Nat) ({ cls := "EdgeLetters", name := "saveState", desc := "(I)I" } : Jvm.MethodName)) ∈ lw_all := lw_g (lw_at lw_m7 152 rfl) rfl
theorem q1714 : (Jvm.Cond.methodLink "EdgeLettersLaw" (282 : Nat) ({ cls := "EdgeLettersLaw", name := "loadState", desc := "(LEdgeLetters;I[J)I" } : Jvm.MethodName)) ∈ lw_all := lw_g (lw_at lw_m7 156 rfl) rfl
theorem q1715 : (Jvm.Cond.static ({ cls := "EdgeLettersLaw", name := "loadState", desc := "(LEdgeLetters;I[J)I" } : Jvm.MethodName)) ∈ lw_all := lw_g (lw_at lw_m7 157 rfl) rfl
theorem q1716 : (Jvm.Cond.codeWith ({ cls := "EdgeLettersLaw", name := "loadState", desc := "(LEdgeLetters;I[J)I" } : Jvm.MethodName) method_28_code (4 : Nat) (Option.some Jvm.ClassFile.FieldType.int) [((0 : Nat), (9 : Nat), (12 : Nat), (19 : Nat)), ((0 : Nat), (9 : Nat), (15 : Nat), (25 : Nat))]) ∈ lw_all := lw_g (lw_at lw_m7 158 rfl) rfl
theorem q1717 : (Jvm.Cond.methodLink "EdgeLettersLaw" (97 : Nat) ({ cls := "EdgeLetters", name := "loadState", desc := "(I)I" } : Jvm.MethodName)) ∈ lw_all := lw_g (lw_at lw_m7 159 rfl) rfl
theorem q1721 : (Jvm.Cond.classLink "EdgeLettersLaw" (101 : Nat) "EdgeLettersModel") ∈ lw_all := lw_g (lw_at lw_m7 163 rfl) rfl
theorem q1723 : (Jvm.Cond.methodLink "EdgeLettersLaw" (103 : Nat) ({ cls := "EdgeLettersModel", name := "<init>", desc := "()V" } : Jvm.MethodName)) ∈ lw_all := lw_g (lw_at lw_m7 165 rfl) rfl
theorem q1814 : (Jvm.Cond.methodLink "EdgeLettersLaw" (110 : Nat) ({ cls := "EdgeLettersModel", name := "thrown", desc := "()I" } : Jvm.MethodName)) ∈ lw_all := lw_g (lw_at lw_m8 16 rfl) rfl
theorem q1818 : (Jvm.Cond.methodLink "EdgeLettersLaw" (109 : Nat) ({ cls := "EdgeLettersModel", name := "start", desc := "(II)I" } : Jvm.MethodName)) ∈ lw_all := lw_g (lw_at lw_m8 20 rfl) rfl
theorem q1837 : (Jvm.Cond.methodLink "EdgeLettersLaw" (117 : Nat) ({ cls := "EdgeLettersModel", name := "turnDiagonals", desc := "()Z" } : Jvm.MethodName)) ∈ lw_all := lw_g (lw_at lw_m8 39 rfl) rfl
theorem q1841 : (Jvm.Cond.methodLink "EdgeLettersLaw" (121 : Nat) ({ cls := "EdgeLettersModel", name := "setTelling", desc := "(IIZ)I" } : Jvm.MethodName)) ∈ lw_all := lw_g (lw_at lw_m8 43 rfl) rfl
theorem q1868 : (Jvm.Cond.methodLink "EdgeLettersLaw" (125 : Nat) ({ cls := "EdgeLettersModel", name := "clearTelling", desc := "(I)I" } : Jvm.MethodName)) ∈ lw_all := lw_g (lw_at lw_m8 70 rfl) rfl
theorem q1876 : (Jvm.Cond.methodLink "EdgeLettersLaw" (129 : Nat) ({ cls := "EdgeLettersModel", name := "tellFirsts", desc := "()I" } : Jvm.MethodName)) ∈ lw_all := lw_g (lw_at lw_m8 78 rfl) rfl
theorem q1896 : (Jvm.Cond.methodLink "EdgeLettersLaw" (132 : Nat) ({ cls := "EdgeLettersModel", name := "exchange", desc := "(II)I" } : Jvm.MethodName)) ∈ lw_all := lw_g (lw_at lw_m8 98 rfl) rfl
theorem q1906 : (Jvm.Cond.methodLink "EdgeLettersLaw" (136 : Nat) ({ cls := "EdgeLettersModel", name := "mirror", desc := "()I" } : Jvm.MethodName)) ∈ lw_all := lw_g (lw_at lw_m8 108 rfl) rfl
theorem q1914 : (Jvm.Cond.methodLink "EdgeLettersLaw" (140 : Nat) ({ cls := "EdgeLettersModel", name := "side", desc := "()I" } : Jvm.MethodName)) ∈ lw_all := lw_g (lw_at lw_m8 116 rfl) rfl
theorem q1922 : (Jvm.Cond.methodLink "EdgeLettersLaw" (144 : Nat) ({ cls := "EdgeLettersModel", name := "letterCount", desc := "()I" } : Jvm.MethodName)) ∈ lw_all := lw_g (lw_at lw_m8 124 rfl) rfl
theorem q1926 : (Jvm.Cond.methodLink "EdgeLettersLaw" (148 : Nat) ({ cls := "EdgeLettersModel", name := "lineCount", desc := "()I" } : Jvm.MethodName)) ∈ lw_all := lw_g (lw_at lw_m8 128 rfl) rfl
theorem q1934 : (Jvm.Cond.methodLink "EdgeLettersLaw" (152 : Nat) ({ cls := "EdgeLettersModel", name := "tellingCount", desc := "()I" } : Jvm.MethodName)) ∈ lw_all := lw_g (lw_at lw_m8 136 rfl) rfl
theorem q1938 : (Jvm.Cond.methodLink "EdgeLettersLaw" (155 : Nat) ({ cls := "EdgeLettersModel", name := "tellingAt", desc := "(I)I" } : Jvm.MethodName)) ∈ lw_all := lw_g (lw_at lw_m8 140 rfl) rfl
theorem q1942 : (Jvm.Cond.methodLink "EdgeLettersLaw" (158 : Nat) ({ cls := "EdgeLettersModel", name := "isSecond", desc := "(I)Z" } : Jvm.MethodName)) ∈ lw_all := lw_g (lw_at lw_m8 144 rfl) rfl
theorem q1946 : (Jvm.Cond.methodLink "EdgeLettersLaw" (161 : Nat) ({ cls := "EdgeLettersModel", name := "cellOf", desc := "(II)I" } : Jvm.MethodName)) ∈ lw_all := lw_g (lw_at lw_m8 148 rfl) rfl
theorem q1958 : (Jvm.Cond.methodLink "EdgeLettersLaw" (164 : Nat) ({ cls := "EdgeLettersModel", name := "put", desc := "(II)I" } : Jvm.MethodName)) ∈ lw_all := lw_g (lw_at lw_m8 160 rfl) rfl
theorem q1974 : (Jvm.Cond.methodLink "EdgeLettersLaw" (167 : Nat) ({ cls := "EdgeLettersModel", name := "crossOut", desc := "(II)I" } : Jvm.MethodName)) ∈ lw_all := lw_g (lw_at lw_m8 176 rfl) rfl
theorem q1978 : (Jvm.Cond.methodLink "EdgeLettersLaw" (171 : Nat) ({ cls := "EdgeLettersModel", name := "clearCells", desc := "()I" } : Jvm.MethodName)) ∈ lw_all := lw_g (lw_at lw_m8 180 rfl) rfl
theorem q1982 : (Jvm.Cond.methodLink "EdgeLettersLaw" (174 : Nat) ({ cls := "EdgeLettersModel", name := "thingsOf", desc := "(I)I" } : Jvm.MethodName)) ∈ lw_all := lw_g (lw_at lw_m8 184 rfl) rfl
theorem q1986 : (Jvm.Cond.methodLink "EdgeLettersLaw" (177 : Nat) ({ cls := "EdgeLettersModel", name := "cellsWith", desc := "(I)J" } : Jvm.MethodName)) ∈ lw_all := lw_g (lw_at lw_m8 188 rfl) rfl
theorem q1990 : (Jvm.Cond.methodLink "EdgeLettersLaw" (182 : Nat) ({ cls := "EdgeLettersModel", name := "settled", desc := "()J" } : Jvm.MethodName)) ∈ lw_all := lw_g (lw_at lw_m8 192 rfl) rfl
theorem q2001 : (Jvm.Cond.methodLink "EdgeLettersLaw" (186 : Nat) ({ cls := "EdgeLettersModel", name := "isBroken", desc := "()Z" } : Jvm.MethodName)) ∈ lw_all := lw_g (lw_at lw_m8 203 rfl) rfl
theorem q2032 : (Jvm.Cond.methodLink "EdgeLettersLaw" (190 : Nat) ({ cls := "EdgeLettersModel", name := "isSolved", desc := "()Z" } : Jvm.MethodName)) ∈ lw_all := lw_g (lw_at lw_m8 234 rfl) rfl
theorem q2040 : (Jvm.Cond.methodLink "EdgeLettersLaw" (193 : Nat) ({ cls := "EdgeLettersModel", name := "arrangements", desc := "(I)I" } : Jvm.MethodName)) ∈ lw_all := lw_g (lw_at lw_m9 2 rfl) rfl
theorem q2044 : (Jvm.Cond.methodLink "EdgeLettersLaw" (196 : Nat) ({ cls := "EdgeLettersModel", name := "arrangementsByCells", desc := "(I)I" } : Jvm.MethodName)) ∈ lw_all := lw_g (lw_at lw_m9 6 rfl) rfl
theorem q2055 : (Jvm.Cond.methodLink "EdgeLettersLaw" (199 : Nat) ({ cls := "EdgeLettersModel", name := "thingsIn", desc := "(II)I" } : Jvm.MethodName)) ∈ lw_all := lw_g (lw_at lw_m9 17 rfl) rfl
theorem q2059 : (Jvm.Cond.methodLink "EdgeLettersLaw" (203 : Nat) ({ cls := "EdgeLettersModel", name := "brokenLines", desc := "()I" } : Jvm.MethodName)) ∈ lw_all := lw_g (lw_at lw_m9 21 rfl) rfl
theorem q2063 : (Jvm.Cond.methodLink "EdgeLettersLaw" (206 : Nat) ({ cls := "EdgeLettersModel", name := "seenFrom", desc := "(II)I" } : Jvm.MethodName)) ∈ lw_all := lw_g (lw_at lw_m9 25 rfl) rfl
theorem q2070 : (Jvm.Cond.methodLink "EdgeLettersLaw" (209 : Nat) ({ cls := "EdgeLettersModel", name := "reasonFor", desc := "(II)I" } : Jvm.MethodName)) ∈ lw_all := lw_g (lw_at lw_m9 32 rfl) rfl
theorem q2126 : (Jvm.Cond.methodLink "EdgeLettersLaw" (213 : Nat) ({ cls := "EdgeLettersModel", name := "nextStep", desc := "()I" } : Jvm.MethodName)) ∈ lw_all := lw_g (lw_at lw_m9 88 rfl) rfl
theorem q2134 : (Jvm.Cond.methodLink "EdgeLettersLaw" (217 : Nat) ({ cls := "EdgeLettersModel", name := "step", desc := "()I" } : Jvm.MethodName)) ∈ lw_all := lw_g (lw_at lw_m9 96 rfl) rfl
theorem q2138 : (Jvm.Cond.methodLink "EdgeLettersLaw" (220 : Nat) ({ cls := "EdgeLettersModel", name := "stepAll", desc := "(I)I" } : Jvm.MethodName)) ∈ lw_all := lw_g (lw_at lw_m9 100 rfl) rfl
theorem q2150 : (Jvm.Cond.methodLink "EdgeLettersLaw" (223 : Nat) ({ cls := "EdgeLettersModel", name := "stepsUpTo", desc := "(I)I" } : Jvm.MethodName)) ∈ lw_all := lw_g (lw_at lw_m9 112 rfl) rfl
theorem q2154 : (Jvm.Cond.methodLink "EdgeLettersLaw" (227 : Nat) ({ cls := "EdgeLettersModel", name := "hardness", desc := "()I" } : Jvm.MethodName)) ∈ lw_all := lw_g (lw_at lw_m9 116 rfl) rfl
theorem q2158 : (Jvm.Cond.methodLink "EdgeLettersLaw" (231 : Nat) ({ cls := "EdgeLettersModel", name := "solutionCount", desc := "()I" } : Jvm.MethodName)) ∈ lw_all := lw_g (lw_at lw_m9 120 rfl) rfl
theorem q2179 : (Jvm.Cond.methodLink "EdgeLettersLaw" (235 : Nat) ({ cls := "EdgeLettersModel", name := "solutionCountByRows", desc := "()I" } : Jvm.MethodName)) ∈ lw_all := lw_g (lw_at lw_m9 141 rfl) rfl
theorem q2195 : (Jvm.Cond.methodLink "EdgeLettersLaw" (238 : Nat) ({ cls := "EdgeLettersModel", name := "firstThing", desc := "(I)I" } : Jvm.MethodName)) ∈ lw_all := lw_g (lw_at lw_m9 157 rfl) rfl
theorem q2199 : (Jvm.Cond.methodLink "EdgeLettersLaw" (242 : Nat) ({ cls := "EdgeLettersModel", name := "sameInAll", desc := "()J" } : Jvm.MethodName)) ∈ lw_all := lw_g (lw_at lw_m9 161 rfl) rfl
theorem q2203 : (Jvm.Cond.methodLink "EdgeLettersLaw" (245 : Nat) ({ cls := "EdgeLettersModel", name := "isNeeded", desc := "(I)Z" } : Jvm.MethodName)) ∈ lw_all := lw_g (lw_at lw_m9 165 rfl) rfl
theorem q2207 : (Jvm.Cond.methodLink "EdgeLettersLaw" (250 : Nat) ({ cls := "EdgeLettersModel", name := "crossedShare", desc := "()D" } : Jvm.MethodName)) ∈ lw_all := lw_g (lw_at lw_m9 169 rfl) rfl
theorem q2211 : (Jvm.Cond.methodLink "EdgeLettersLaw" (256 : Nat) ({ cls := "EdgeLettersModel", name := "appendText", desc := "(J)I" } : Jvm.MethodName)) ∈ lw_all := lw_g (lw_at lw_m9 173 rfl) rfl
theorem q2219 : (Jvm.Cond.methodLink "EdgeLettersLaw" (260 : Nat) ({ cls := "EdgeLettersModel", name := "clearText", desc := "()I" } : Jvm.MethodName)) ∈ lw_all := lw_g (lw_at lw_m9 181 rfl) rfl
theorem q2223 : (Jvm.Cond.methodLink "EdgeLettersLaw" (264 : Nat) ({ cls := "EdgeLettersModel", name := "textLength", desc := "()I" } : Jvm.MethodName)) ∈ lw_all := lw_g (lw_at lw_m9 185 rfl) rfl
theorem q2227 : (Jvm.Cond.methodLink "EdgeLettersLaw" (268 : Nat) ({ cls := "EdgeLettersModel", name := "textError", desc := "()I" } : Jvm.MethodName)) ∈ lw_all := lw_g (lw_at lw_m9 189 rfl) rfl
theorem q2259 : (Jvm.Cond.methodLink "EdgeLettersLaw" (271 : Nat) ({ cls := "EdgeLettersModel", name := "runText", desc := "()I" } : Jvm.MethodName)) ∈ lw_all := lw_g (lw_at lw_m9 221 rfl) rfl
theorem q2275 : (Jvm.Cond.methodLink "EdgeLettersLaw" (274 : Nat) ({ cls := "EdgeLettersModel", name := "undo", desc := "()I" } : Jvm.MethodName)) ∈ lw_all := lw_g (lw_at lw_m9 237 rfl) rfl
theorem q2279 : (Jvm.Cond.methodLink "EdgeLettersLaw" (278 : Nat) ({ cls := "EdgeLettersModel", name := "undoCount", desc := "()I" } : Jvm.MethodName)) ∈ lw_all := lw_g (lw_at lw_m10 1 rfl) rfl
theorem q2283 : (Jvm.Cond.methodLink "EdgeLettersLaw" (281 : Nat) ({ cls := "EdgeLettersModel", name := "saveState", desc := "(I)I" } : Jvm.MethodName)) ∈ lw_all := lw_g (lw_at lw_m10 5 rfl) rfl
theorem q2290 : (Jvm.Cond.methodLink "EdgeLettersLaw" (284 : Nat) ({ cls := "EdgeLettersModel", name := "loadState", desc := "(I)I" } : Jvm.MethodName)) ∈ lw_all := lw_g (lw_at lw_m10 12 rfl) rfl
theorem q2294 : (Jvm.Cond.constantLong "EdgeLettersLaw" (251 : Nat) (4294967295 : Int64)) ∈ lw_all := lw_g (lw_at lw_m10 16 rfl) rfl
/-! EdgeLetters -/
set_option maxRecDepth 100000
def RX1 : String := "EdgeLetters"
def TX1 : u_T := fun k => match k with
  | 0 => ("EdgeLetters", "desk", "LEdgeLetters$Desk;", true)
  | 1 => ("EdgeLetters", "puzzle", "LEdgeLetters$Puzzle;", true)
  | 2 => ("EdgeLetters", "board", "LEdgeLetters$Board;", true)
  | 3 => ("EdgeLetters", "trial", "LEdgeLetters$Board;", true)
  | 4 => ("EdgeLetters", "further", "LEdgeLetters$Board;", true)
  | 5 => ("EdgeLetters", "history", "Ljava/util/List;", true)
  | 6 => ("EdgeLetters", "slots", "[LEdgeLetters$Desk;", true)
  | _ => ("EdgeLetters", "text", "Ljava/lang/StringBuilder;", true)
def tyX1 : Nat → FieldType := fun k => match k with
  | 0 => .object "EdgeLetters$Desk"
  | 1 => .object "EdgeLetters$Puzzle"
  | 2 => .object "EdgeLetters$Board"
  | 3 => .object "EdgeLetters$Board"
  | 4 => .object "EdgeLetters$Board"
  | 5 => .object "java/util/List"
  | 6 => .array (.object "EdgeLetters$Desk")
  | _ => .object "java/lang/StringBuilder"
abbrev wsX10 : List Cond := u_ws RX1 TX1 8
theorem nmX1 : ∀ a, a < 8 → ∀ b, b < 8 → a ≠ b → (TX1 a).2.1 ≠ (TX1 b).2.1 := by decide +kernel
theorem tyX1_ok : ∀ k, k < 8 → parseFieldDescriptor (TX1 k).2.2.1 = some (tyX1 k) := by decide +kernel
abbrev cX1_init : ByteArray := prog_1_method_9_code
def yX1_init : MethodName := ⟨RX1, "<init>", "()V"⟩
def dkwX1_init_4 : List UInt8 := [187, 0, 65, 89, 183, 0, 67, 181, 0, 68, 177]
abbrev dktX1_init_4 : List UInt8 := dkwX1_init_4 ++ []
def dkwX1_init_3 : List UInt8 := [181, 0, 51, 42, 187, 0, 54, 89, 183, 0, 56, 181, 0, 57, 42, 5, 189, 0, 26, 181, 0, 61, 42]
abbrev dktX1_init_3 : List UInt8 := dkwX1_init_3 ++ dktX1_init_4
def dkwX1_init_2 : List UInt8 := [180, 0, 33, 183, 0, 45, 181, 0, 48, 42, 187, 0, 43, 89, 42, 180, 0, 29, 180, 0, 33, 183, 0, 45]
abbrev dktX1_init_2 : List UInt8 := dkwX1_init_2 ++ dktX1_init_3
def dkwX1_init_1 : List UInt8 := [181, 0, 37, 42, 42, 180, 0, 29, 180, 0, 38, 181, 0, 42, 42, 187, 0, 43, 89, 42, 180, 0, 29]
abbrev dktX1_init_1 : List UInt8 := dkwX1_init_1 ++ dktX1_init_2
def dkwX1_init_0 : List UInt8 := [42, 183, 0, 23, 42, 187, 0, 26, 89, 183, 0, 28, 181, 0, 29, 42, 42, 180, 0, 29, 180, 0, 33]
abbrev dktX1_init_0 : List UInt8 := dkwX1_init_0 ++ dktX1_init_1
theorem dksX1_init_0 : cX1_init.data.toList.drop 0 = dktX1_init_0 := by decide +kernel
theorem dksX1_init_1 : cX1_init.data.toList.drop 23 = dktX1_init_1 := dk_seg dksX1_init_0 23 rfl rfl
theorem dksX1_init_2 : cX1_init.data.toList.drop 46 = dktX1_init_2 := dk_seg dksX1_init_1 23 rfl rfl
theorem dksX1_init_3 : cX1_init.data.toList.drop 70 = dktX1_init_3 := dk_seg dksX1_init_2 24 rfl rfl
theorem dksX1_init_4 : cX1_init.data.toList.drop 93 = dktX1_init_4 := dk_seg dksX1_init_3 23 rfl rfl
theorem dX1_init_0 : decode cX1_init 0 = .ok (.aload_n 0, 1) := dk_42 (dk_at dksX1_init_0 0 rfl rfl)
theorem dX1_init_1 : decode cX1_init 1 = .ok (.invokespecial 23, 3) := dk_183 0 23 (dk_at dksX1_init_0 1 rfl rfl)
theorem dX1_init_4 : decode cX1_init 4 = .ok (.aload_n 0, 1) := dk_42 (dk_at dksX1_init_0 4 rfl rfl)
theorem dX1_init_5 : decode cX1_init 5 = .ok (.new 26, 3) := dk_187 0 26 (dk_at dksX1_init_0 5 rfl rfl)
theorem dX1_init_8 : decode cX1_init 8 = .ok (.dup, 1) := dk_89 (dk_at dksX1_init_0 8 rfl rfl)
theorem dX1_init_9 : decode cX1_init 9 = .ok (.invokespecial 28, 3) := dk_183 0 28 (dk_at dksX1_init_0 9 rfl rfl)
theorem dX1_init_12 : decode cX1_init 12 = .ok (.putfield 29, 3) := dk_181 0 29 (dk_at dksX1_init_0 12 rfl rfl)
theorem dX1_init_15 : decode cX1_init 15 = .ok (.aload_n 0, 1) := dk_42 (dk_at dksX1_init_0 15 rfl rfl)
theorem dX1_init_16 : decode cX1_init 16 = .ok (.aload_n 0, 1) := dk_42 (dk_at dksX1_init_0 16 rfl rfl)
theorem dX1_init_17 : decode cX1_init 17 = .ok (.getfield 29, 3) := dk_180 0 29 (dk_at dksX1_init_0 17 rfl rfl)
theorem dX1_init_20 : decode cX1_init 20 = .ok (.getfield 33, 3) := dk_180 0 33 (dk_at dksX1_init_0 20 rfl rfl)
theorem dX1_init_23 : decode cX1_init 23 = .ok (.putfield 37, 3) := dk_181 0 37 (dk_at dksX1_init_1 0 rfl rfl)
theorem dX1_init_26 : decode cX1_init 26 = .ok (.aload_n 0, 1) := dk_42 (dk_at dksX1_init_1 3 rfl rfl)
theorem dX1_init_27 : decode cX1_init 27 = .ok (.aload_n 0, 1) := dk_42 (dk_at dksX1_init_1 4 rfl rfl)
theorem dX1_init_28 : decode cX1_init 28 = .ok (.getfield 29, 3) := dk_180 0 29 (dk_at dksX1_init_1 5 rfl rfl)
theorem dX1_init_31 : decode cX1_init 31 = .ok (.getfield 38, 3) := dk_180 0 38 (dk_at dksX1_init_1 8 rfl rfl)
theorem dX1_init_34 : decode cX1_init 34 = .ok (.putfield 42, 3) := dk_181 0 42 (dk_at dksX1_init_1 11 rfl rfl)
theorem dX1_init_37 : decode cX1_init 37 = .ok (.aload_n 0, 1) := dk_42 (dk_at dksX1_init_1 14 rfl rfl)
theorem dX1_init_38 : decode cX1_init 38 = .ok (.new 43, 3) := dk_187 0 43 (dk_at dksX1_init_1 15 rfl rfl)
theorem dX1_init_41 : decode cX1_init 41 = .ok (.dup, 1) := dk_89 (dk_at dksX1_init_1 18 rfl rfl)
theorem dX1_init_42 : decode cX1_init 42 = .ok (.aload_n 0, 1) := dk_42 (dk_at dksX1_init_1 19 rfl rfl)
theorem dX1_init_43 : decode cX1_init 43 = .ok (.getfield 29, 3) := dk_180 0 29 (dk_at dksX1_init_1 20 rfl rfl)
theorem dX1_init_46 : decode cX1_init 46 = .ok (.getfield 33, 3) := dk_180 0 33 (dk_at dksX1_init_2 0 rfl rfl)
theorem dX1_init_49 : decode cX1_init 49 = .ok (.invokespecial 45, 3) := dk_183 0 45 (dk_at dksX1_init_2 3 rfl rfl)
theorem dX1_init_52 : decode cX1_init 52 = .ok (.putfield 48, 3) := dk_181 0 48 (dk_at dksX1_init_2 6 rfl rfl)
theorem dX1_init_55 : decode cX1_init 55 = .ok (.aload_n 0, 1) := dk_42 (dk_at dksX1_init_2 9 rfl rfl)
theorem dX1_init_56 : decode cX1_init 56 = .ok (.new 43, 3) := dk_187 0 43 (dk_at dksX1_init_2 10 rfl rfl)
theorem dX1_init_59 : decode cX1_init 59 = .ok (.dup, 1) := dk_89 (dk_at dksX1_init_2 13 rfl rfl)
theorem dX1_init_60 : decode cX1_init 60 = .ok (.aload_n 0, 1) := dk_42 (dk_at dksX1_init_2 14 rfl rfl)
theorem dX1_init_61 : decode cX1_init 61 = .ok (.getfield 29, 3) := dk_180 0 29 (dk_at dksX1_init_2 15 rfl rfl)
theorem dX1_init_64 : decode cX1_init 64 = .ok (.getfield 33, 3) := dk_180 0 33 (dk_at dksX1_init_2 18 rfl rfl)
theorem dX1_init_67 : decode cX1_init 67 = .ok (.invokespecial 45, 3) := dk_183 0 45 (dk_at dksX1_init_2 21 rfl rfl)
theorem dX1_init_70 : decode cX1_init 70 = .ok (.putfield 51, 3) := dk_181 0 51 (dk_at dksX1_init_3 0 rfl rfl)
theorem dX1_init_73 : decode cX1_init 73 = .ok (.aload_n 0, 1) := dk_42 (dk_at dksX1_init_3 3 rfl rfl)
theorem dX1_init_74 : decode cX1_init 74 = .ok (.new 54, 3) := dk_187 0 54 (dk_at dksX1_init_3 4 rfl rfl)
theorem dX1_init_77 : decode cX1_init 77 = .ok (.dup, 1) := dk_89 (dk_at dksX1_init_3 7 rfl rfl)
theorem dX1_init_78 : decode cX1_init 78 = .ok (.invokespecial 56, 3) := dk_183 0 56 (dk_at dksX1_init_3 8 rfl rfl)
theorem dX1_init_81 : decode cX1_init 81 = .ok (.putfield 57, 3) := dk_181 0 57 (dk_at dksX1_init_3 11 rfl rfl)
theorem dX1_init_84 : decode cX1_init 84 = .ok (.aload_n 0, 1) := dk_42 (dk_at dksX1_init_3 14 rfl rfl)
theorem dX1_init_85 : decode cX1_init 85 = .ok (.iconst 2, 1) := dk_5 (dk_at dksX1_init_3 15 rfl rfl)
theorem dX1_init_86 : decode cX1_init 86 = .ok (.anewarray 26, 3) := dk_189 0 26 (dk_at dksX1_init_3 16 rfl rfl)
theorem dX1_init_89 : decode cX1_init 89 = .ok (.putfield 61, 3) := dk_181 0 61 (dk_at dksX1_init_3 19 rfl rfl)
theorem dX1_init_92 : decode cX1_init 92 = .ok (.aload_n 0, 1) := dk_42 (dk_at dksX1_init_3 22 rfl rfl)
theorem dX1_init_93 : decode cX1_init 93 = .ok (.new 65, 3) := dk_187 0 65 (dk_at dksX1_init_4 0 rfl rfl)
theorem dX1_init_96 : decode cX1_init 96 = .ok (.dup, 1) := dk_89 (dk_at dksX1_init_4 3 rfl rfl)
theorem dX1_init_97 : decode cX1_init 97 = .ok (.invokespecial 67, 3) := dk_183 0 67 (dk_at dksX1_init_4 4 rfl rfl)
theorem dX1_init_100 : decode cX1_init 100 = .ok (.putfield 68, 3) := dk_181 0 68 (dk_at dksX1_init_4 7 rfl rfl)
theorem dX1_init_103 : decode cX1_init 103 = .ok (.return_, 1) := dk_177 (dk_at dksX1_init_4 10 rfl rfl)
abbrev cX1_has : ByteArray := prog_1_method_2_code
def yX1_has : MethodName := ⟨RX1, "has", "(II)Z"⟩
def dkwX1_has_0 : List UInt8 := [26, 27, 122, 4, 126, 4, 160, 0, 7, 4, 167, 0, 4, 3, 172]
abbrev dktX1_has_0 : List UInt8 := dkwX1_has_0 ++ []
theorem dksX1_has_0 : cX1_has.data.toList.drop 0 = dktX1_has_0 := by decide +kernel
theorem dX1_has_0 : decode cX1_has 0 = .ok (.iload_n 0, 1) := dk_26 (dk_at dksX1_has_0 0 rfl rfl)
theorem dX1_has_1 : decode cX1_has 1 = .ok (.iload_n 1, 1) := dk_27 (dk_at dksX1_has_0 1 rfl rfl)
theorem dX1_has_2 : decode cX1_has 2 = .ok (.ishr, 1) := dk_122 (dk_at dksX1_has_0 2 rfl rfl)
theorem dX1_has_3 : decode cX1_has 3 = .ok (.iconst 1, 1) := dk_4 (dk_at dksX1_has_0 3 rfl rfl)
theorem dX1_has_4 : decode cX1_has 4 = .ok (.iand, 1) := dk_126 (dk_at dksX1_has_0 4 rfl rfl)
theorem dX1_has_5 : decode cX1_has 5 = .ok (.iconst 1, 1) := dk_4 (dk_at dksX1_has_0 5 rfl rfl)
theorem dX1_has_6 : decode cX1_has 6 = .ok (.if_icmp .ne 7, 3) := dk_160 0 7 (dk_at dksX1_has_0 6 rfl rfl)
theorem dX1_has_9 : decode cX1_has 9 = .ok (.iconst 1, 1) := dk_4 (dk_at dksX1_has_0 9 rfl rfl)
theorem dX1_has_10 : decode cX1_has 10 = .ok (.goto 4, 3) := dk_167 0 4 (dk_at dksX1_has_0 10 rfl rfl)
theorem dX1_has_13 : decode cX1_has 13 = .ok (.iconst 0, 1) := dk_3 (dk_at dksX1_has_0 13 rfl rfl)
theorem dX1_has_14 : decode cX1_has 14 = .ok (.ireturn, 1) := dk_172 (dk_at dksX1_has_0 14 rfl rfl)
abbrev cX1_turnDiagonals : ByteArray := prog_1_method_18_code
def yX1_turnDiagonals : MethodName := ⟨RX1, "turnDiagonals", "()Z"⟩
def dkwX1_turnDiagonals_0 : List UInt8 := [42, 4, 182, 0, 115, 42, 180, 0, 37, 182, 0, 125, 42, 180, 0, 37, 180, 0, 128, 172]
abbrev dktX1_turnDiagonals_0 : List UInt8 := dkwX1_turnDiagonals_0 ++ []
theorem dksX1_turnDiagonals_0 : cX1_turnDiagonals.data.toList.drop 0 = dktX1_turnDiagonals_0 := by decide +kernel
theorem dX1_turnDiagonals_0 : decode cX1_turnDiagonals 0 = .ok (.aload_n 0, 1) := dk_42 (dk_at dksX1_turnDiagonals_0 0 rfl rfl)
theorem dX1_turnDiagonals_1 : decode cX1_turnDiagonals 1 = .ok (.iconst 1, 1) := dk_4 (dk_at dksX1_turnDiagonals_0 1 rfl rfl)
theorem dX1_turnDiagonals_2 : decode cX1_turnDiagonals 2 = .ok (.invokevirtual 115, 3) := dk_182 0 115 (dk_at dksX1_turnDiagonals_0 2 rfl rfl)
theorem dX1_turnDiagonals_5 : decode cX1_turnDiagonals 5 = .ok (.aload_n 0, 1) := dk_42 (dk_at dksX1_turnDiagonals_0 5 rfl rfl)
theorem dX1_turnDiagonals_6 : decode cX1_turnDiagonals 6 = .ok (.getfield 37, 3) := dk_180 0 37 (dk_at dksX1_turnDiagonals_0 6 rfl rfl)
theorem dX1_turnDiagonals_9 : decode cX1_turnDiagonals 9 = .ok (.invokevirtual 125, 3) := dk_182 0 125 (dk_at dksX1_turnDiagonals_0 9 rfl rfl)
theorem dX1_turnDiagonals_12 : decode cX1_turnDiagonals 12 = .ok (.aload_n 0, 1) := dk_42 (dk_at dksX1_turnDiagonals_0 12 rfl rfl)
theorem dX1_turnDiagonals_13 : decode cX1_turnDiagonals 13 = .ok (.getfield 37, 3) := dk_180 0 37 (dk_at dksX1_turnDiagonals_0 13 rfl rfl)
theorem dX1_turnDiagonals_16 : decode cX1_turnDiagonals 16 = .ok (.getfield 128, 3) := dk_180 0 128 (dk_at dksX1_turnDiagonals_0 16 rfl rfl)
theorem dX1_turnDiagonals_19 : decode cX1_turnDiagonals 19 = .ok (.ireturn, 1) := dk_172 (dk_at dksX1_turnDiagonals_0 19 rfl rfl)
abbrev cX1_recordIf : ByteArray := prog_1_method_10_code
def yX1_recordIf : MethodName := ⟨RX1, "recordIf", "(Z)V"⟩
def dkwX1_recordIf_2 : List UInt8 := [185, 0, 86, 2, 0, 87, 177]
abbrev dktX1_recordIf_2 : List UInt8 := dkwX1_recordIf_2 ++ []
def dkwX1_recordIf_1 : List UInt8 := [185, 0, 78, 2, 0, 192, 0, 26, 77, 42, 180, 0, 57, 42, 180, 0, 29, 182, 0, 82]
abbrev dktX1_recordIf_1 : List UInt8 := dkwX1_recordIf_1 ++ dktX1_recordIf_2
def dkwX1_recordIf_0 : List UInt8 := [27, 154, 0, 4, 177, 42, 180, 0, 57, 185, 0, 72, 1, 0, 16, 6, 160, 0, 17, 42, 180, 0, 57, 3]
abbrev dktX1_recordIf_0 : List UInt8 := dkwX1_recordIf_0 ++ dktX1_recordIf_1
theorem dksX1_recordIf_0 : cX1_recordIf.data.toList.drop 0 = dktX1_recordIf_0 := by decide +kernel
theorem dksX1_recordIf_1 : cX1_recordIf.data.toList.drop 24 = dktX1_recordIf_1 := dk_seg dksX1_recordIf_0 24 rfl rfl
theorem dksX1_recordIf_2 : cX1_recordIf.data.toList.drop 44 = dktX1_recordIf_2 := dk_seg dksX1_recordIf_1 20 rfl rfl
theorem dX1_recordIf_0 : decode cX1_recordIf 0 = .ok (.iload_n 1, 1) := dk_27 (dk_at dksX1_recordIf_0 0 rfl rfl)
theorem dX1_recordIf_1 : decode cX1_recordIf 1 = .ok (.ifCond .ne 4, 3) := dk_154 0 4 (dk_at dksX1_recordIf_0 1 rfl rfl)
theorem dX1_recordIf_4 : decode cX1_recordIf 4 = .ok (.return_, 1) := dk_177 (dk_at dksX1_recordIf_0 4 rfl rfl)
theorem dX1_recordIf_5 : decode cX1_recordIf 5 = .ok (.aload_n 0, 1) := dk_42 (dk_at dksX1_recordIf_0 5 rfl rfl)
theorem dX1_recordIf_6 : decode cX1_recordIf 6 = .ok (.getfield 57, 3) := dk_180 0 57 (dk_at dksX1_recordIf_0 6 rfl rfl)
theorem dX1_recordIf_9 : decode cX1_recordIf 9 = .ok (.invokeinterface 72 1, 5) := by decide +kernel
theorem dX1_recordIf_14 : decode cX1_recordIf 14 = .ok (.bipush 6, 2) := dk_16 6 (dk_at dksX1_recordIf_0 14 rfl rfl)
theorem dX1_recordIf_16 : decode cX1_recordIf 16 = .ok (.if_icmp .ne 17, 3) := dk_160 0 17 (dk_at dksX1_recordIf_0 16 rfl rfl)
theorem dX1_recordIf_19 : decode cX1_recordIf 19 = .ok (.aload_n 0, 1) := dk_42 (dk_at dksX1_recordIf_0 19 rfl rfl)
theorem dX1_recordIf_20 : decode cX1_recordIf 20 = .ok (.getfield 57, 3) := dk_180 0 57 (dk_at dksX1_recordIf_0 20 rfl rfl)
theorem dX1_recordIf_23 : decode cX1_recordIf 23 = .ok (.iconst 0, 1) := dk_3 (dk_at dksX1_recordIf_0 23 rfl rfl)
theorem dX1_recordIf_24 : decode cX1_recordIf 24 = .ok (.invokeinterface 78 2, 5) := by decide +kernel
theorem dX1_recordIf_29 : decode cX1_recordIf 29 = .ok (.checkcast 26, 3) := dk_192 0 26 (dk_at dksX1_recordIf_1 5 rfl rfl)
theorem dX1_recordIf_32 : decode cX1_recordIf 32 = .ok (.astore_n 2, 1) := dk_77 (dk_at dksX1_recordIf_1 8 rfl rfl)
theorem dX1_recordIf_33 : decode cX1_recordIf 33 = .ok (.aload_n 0, 1) := dk_42 (dk_at dksX1_recordIf_1 9 rfl rfl)
theorem dX1_recordIf_34 : decode cX1_recordIf 34 = .ok (.getfield 57, 3) := dk_180 0 57 (dk_at dksX1_recordIf_1 10 rfl rfl)
theorem dX1_recordIf_37 : decode cX1_recordIf 37 = .ok (.aload_n 0, 1) := dk_42 (dk_at dksX1_recordIf_1 13 rfl rfl)
theorem dX1_recordIf_38 : decode cX1_recordIf 38 = .ok (.getfield 29, 3) := dk_180 0 29 (dk_at dksX1_recordIf_1 14 rfl rfl)
theorem dX1_recordIf_41 : decode cX1_recordIf 41 = .ok (.invokevirtual 82, 3) := dk_182 0 82 (dk_at dksX1_recordIf_1 17 rfl rfl)
theorem dX1_recordIf_44 : decode cX1_recordIf 44 = .ok (.invokeinterface 86 2, 5) := by decide +kernel
theorem dX1_recordIf_49 : decode cX1_recordIf 49 = .ok (.pop, 1) := dk_87 (dk_at dksX1_recordIf_2 5 rfl rfl)
theorem dX1_recordIf_50 : decode cX1_recordIf 50 = .ok (.return_, 1) := dk_177 (dk_at dksX1_recordIf_2 6 rfl rfl)
abbrev cX1_tellFirsts : ByteArray := prog_1_method_25_code
def yX1_tellFirsts : MethodName := ⟨RX1, "tellFirsts", "()I"⟩
def dkwX1_tellFirsts_3 : List UInt8 := [62, 132, 1, 1, 167, 255, 187, 42, 180, 0, 37, 182, 0, 152, 172]
abbrev dktX1_tellFirsts_3 : List UInt8 := dkwX1_tellFirsts_3 ++ []
def dkwX1_tellFirsts_2 : List UInt8 := [42, 180, 0, 37, 180, 0, 112, 3, 42, 180, 0, 37, 27, 182, 0, 190, 44, 184, 0, 193, 3, 182, 0, 138]
abbrev dktX1_tellFirsts_2 : List UInt8 := dkwX1_tellFirsts_2 ++ dktX1_tellFirsts_3
def dkwX1_tellFirsts_1 : List UInt8 := [182, 0, 179, 182, 0, 182, 77, 44, 198, 0, 41, 42, 44, 182, 0, 186, 153, 0, 33, 42, 180, 0, 37, 27]
abbrev dktX1_tellFirsts_1 : List UInt8 := dkwX1_tellFirsts_1 ++ dktX1_tellFirsts_2
def dkwX1_tellFirsts_0 : List UInt8 := [42, 4, 182, 0, 115, 3, 60, 27, 42, 180, 0, 37, 182, 0, 90, 162, 0, 64, 42, 42, 180, 0, 37, 27]
abbrev dktX1_tellFirsts_0 : List UInt8 := dkwX1_tellFirsts_0 ++ dktX1_tellFirsts_1
theorem dksX1_tellFirsts_0 : cX1_tellFirsts.data.toList.drop 0 = dktX1_tellFirsts_0 := by decide +kernel
theorem dksX1_tellFirsts_1 : cX1_tellFirsts.data.toList.drop 24 = dktX1_tellFirsts_1 := dk_seg dksX1_tellFirsts_0 24 rfl rfl
theorem dksX1_tellFirsts_2 : cX1_tellFirsts.data.toList.drop 48 = dktX1_tellFirsts_2 := dk_seg dksX1_tellFirsts_1 24 rfl rfl
theorem dksX1_tellFirsts_3 : cX1_tellFirsts.data.toList.drop 72 = dktX1_tellFirsts_3 := dk_seg dksX1_tellFirsts_2 24 rfl rfl
theorem dX1_tellFirsts_0 : decode cX1_tellFirsts 0 = .ok (.aload_n 0, 1) := dk_42 (dk_at dksX1_tellFirsts_0 0 rfl rfl)
theorem dX1_tellFirsts_1 : decode cX1_tellFirsts 1 = .ok (.iconst 1, 1) := dk_4 (dk_at dksX1_tellFirsts_0 1 rfl rfl)
theorem dX1_tellFirsts_2 : decode cX1_tellFirsts 2 = .ok (.invokevirtual 115, 3) := dk_182 0 115 (dk_at dksX1_tellFirsts_0 2 rfl rfl)
theorem dX1_tellFirsts_5 : decode cX1_tellFirsts 5 = .ok (.iconst 0, 1) := dk_3 (dk_at dksX1_tellFirsts_0 5 rfl rfl)
theorem dX1_tellFirsts_6 : decode cX1_tellFirsts 6 = .ok (.istore_n 1, 1) := dk_60 (dk_at dksX1_tellFirsts_0 6 rfl rfl)
theorem dX1_tellFirsts_7 : decode cX1_tellFirsts 7 = .ok (.iload_n 1, 1) := dk_27 (dk_at dksX1_tellFirsts_0 7 rfl rfl)
theorem dX1_tellFirsts_8 : decode cX1_tellFirsts 8 = .ok (.aload_n 0, 1) := dk_42 (dk_at dksX1_tellFirsts_0 8 rfl rfl)
theorem dX1_tellFirsts_9 : decode cX1_tellFirsts 9 = .ok (.getfield 37, 3) := dk_180 0 37 (dk_at dksX1_tellFirsts_0 9 rfl rfl)
theorem dX1_tellFirsts_12 : decode cX1_tellFirsts 12 = .ok (.invokevirtual 90, 3) := dk_182 0 90 (dk_at dksX1_tellFirsts_0 12 rfl rfl)
theorem dX1_tellFirsts_15 : decode cX1_tellFirsts 15 = .ok (.if_icmp .ge 64, 3) := dk_162 0 64 (dk_at dksX1_tellFirsts_0 15 rfl rfl)
theorem dX1_tellFirsts_18 : decode cX1_tellFirsts 18 = .ok (.aload_n 0, 1) := dk_42 (dk_at dksX1_tellFirsts_0 18 rfl rfl)
theorem dX1_tellFirsts_19 : decode cX1_tellFirsts 19 = .ok (.aload_n 0, 1) := dk_42 (dk_at dksX1_tellFirsts_0 19 rfl rfl)
theorem dX1_tellFirsts_20 : decode cX1_tellFirsts 20 = .ok (.getfield 37, 3) := dk_180 0 37 (dk_at dksX1_tellFirsts_0 20 rfl rfl)
theorem dX1_tellFirsts_23 : decode cX1_tellFirsts 23 = .ok (.iload_n 1, 1) := dk_27 (dk_at dksX1_tellFirsts_0 23 rfl rfl)
theorem dX1_tellFirsts_24 : decode cX1_tellFirsts 24 = .ok (.invokevirtual 179, 3) := dk_182 0 179 (dk_at dksX1_tellFirsts_1 0 rfl rfl)
theorem dX1_tellFirsts_27 : decode cX1_tellFirsts 27 = .ok (.invokevirtual 182, 3) := dk_182 0 182 (dk_at dksX1_tellFirsts_1 3 rfl rfl)
theorem dX1_tellFirsts_30 : decode cX1_tellFirsts 30 = .ok (.astore_n 2, 1) := dk_77 (dk_at dksX1_tellFirsts_1 6 rfl rfl)
theorem dX1_tellFirsts_31 : decode cX1_tellFirsts 31 = .ok (.aload_n 2, 1) := dk_44 (dk_at dksX1_tellFirsts_1 7 rfl rfl)
theorem dX1_tellFirsts_32 : decode cX1_tellFirsts 32 = .ok (.ifnull 41, 3) := dk_198 0 41 (dk_at dksX1_tellFirsts_1 8 rfl rfl)
theorem dX1_tellFirsts_35 : decode cX1_tellFirsts 35 = .ok (.aload_n 0, 1) := dk_42 (dk_at dksX1_tellFirsts_1 11 rfl rfl)
theorem dX1_tellFirsts_36 : decode cX1_tellFirsts 36 = .ok (.aload_n 2, 1) := dk_44 (dk_at dksX1_tellFirsts_1 12 rfl rfl)
theorem dX1_tellFirsts_37 : decode cX1_tellFirsts 37 = .ok (.invokevirtual 186, 3) := dk_182 0 186 (dk_at dksX1_tellFirsts_1 13 rfl rfl)
theorem dX1_tellFirsts_40 : decode cX1_tellFirsts 40 = .ok (.ifCond .eq 33, 3) := dk_153 0 33 (dk_at dksX1_tellFirsts_1 16 rfl rfl)
theorem dX1_tellFirsts_43 : decode cX1_tellFirsts 43 = .ok (.aload_n 0, 1) := dk_42 (dk_at dksX1_tellFirsts_1 19 rfl rfl)
theorem dX1_tellFirsts_44 : decode cX1_tellFirsts 44 = .ok (.getfield 37, 3) := dk_180 0 37 (dk_at dksX1_tellFirsts_1 20 rfl rfl)
theorem dX1_tellFirsts_47 : decode cX1_tellFirsts 47 = .ok (.iload_n 1, 1) := dk_27 (dk_at dksX1_tellFirsts_1 23 rfl rfl)
theorem dX1_tellFirsts_48 : decode cX1_tellFirsts 48 = .ok (.aload_n 0, 1) := dk_42 (dk_at dksX1_tellFirsts_2 0 rfl rfl)
theorem dX1_tellFirsts_49 : decode cX1_tellFirsts 49 = .ok (.getfield 37, 3) := dk_180 0 37 (dk_at dksX1_tellFirsts_2 1 rfl rfl)
theorem dX1_tellFirsts_52 : decode cX1_tellFirsts 52 = .ok (.getfield 112, 3) := dk_180 0 112 (dk_at dksX1_tellFirsts_2 4 rfl rfl)
theorem dX1_tellFirsts_55 : decode cX1_tellFirsts 55 = .ok (.iconst 0, 1) := dk_3 (dk_at dksX1_tellFirsts_2 7 rfl rfl)
theorem dX1_tellFirsts_56 : decode cX1_tellFirsts 56 = .ok (.aload_n 0, 1) := dk_42 (dk_at dksX1_tellFirsts_2 8 rfl rfl)
theorem dX1_tellFirsts_57 : decode cX1_tellFirsts 57 = .ok (.getfield 37, 3) := dk_180 0 37 (dk_at dksX1_tellFirsts_2 9 rfl rfl)
theorem dX1_tellFirsts_60 : decode cX1_tellFirsts 60 = .ok (.iload_n 1, 1) := dk_27 (dk_at dksX1_tellFirsts_2 12 rfl rfl)
theorem dX1_tellFirsts_61 : decode cX1_tellFirsts 61 = .ok (.invokevirtual 190, 3) := dk_182 0 190 (dk_at dksX1_tellFirsts_2 13 rfl rfl)
theorem dX1_tellFirsts_64 : decode cX1_tellFirsts 64 = .ok (.aload_n 2, 1) := dk_44 (dk_at dksX1_tellFirsts_2 16 rfl rfl)
theorem dX1_tellFirsts_65 : decode cX1_tellFirsts 65 = .ok (.invokestatic 193, 3) := dk_184 0 193 (dk_at dksX1_tellFirsts_2 17 rfl rfl)
theorem dX1_tellFirsts_68 : decode cX1_tellFirsts 68 = .ok (.iconst 0, 1) := dk_3 (dk_at dksX1_tellFirsts_2 20 rfl rfl)
theorem dX1_tellFirsts_69 : decode cX1_tellFirsts 69 = .ok (.invokevirtual 138, 3) := dk_182 0 138 (dk_at dksX1_tellFirsts_2 21 rfl rfl)
theorem dX1_tellFirsts_72 : decode cX1_tellFirsts 72 = .ok (.istore_n 3, 1) := dk_62 (dk_at dksX1_tellFirsts_3 0 rfl rfl)
theorem dX1_tellFirsts_73 : decode cX1_tellFirsts 73 = .ok (.iinc 1 1, 3) := dk_132 1 1 (dk_at dksX1_tellFirsts_3 1 rfl rfl)
theorem dX1_tellFirsts_76 : decode cX1_tellFirsts 76 = .ok (.goto (-69), 3) := dk_167 255 187 (dk_at dksX1_tellFirsts_3 4 rfl rfl)
theorem dX1_tellFirsts_79 : decode cX1_tellFirsts 79 = .ok (.aload_n 0, 1) := dk_42 (dk_at dksX1_tellFirsts_3 7 rfl rfl)
theorem dX1_tellFirsts_80 : decode cX1_tellFirsts 80 = .ok (.getfield 37, 3) := dk_180 0 37 (dk_at dksX1_tellFirsts_3 8 rfl rfl)
theorem dX1_tellFirsts_83 : decode cX1_tellFirsts 83 = .ok (.invokevirtual 152, 3) := dk_182 0 152 (dk_at dksX1_tellFirsts_3 11 rfl rfl)
theorem dX1_tellFirsts_86 : decode cX1_tellFirsts 86 = .ok (.ireturn, 1) := dk_172 (dk_at dksX1_tellFirsts_3 14 rfl rfl)
abbrev cX1_settledLine : ByteArray := prog_1_method_23_code
def yX1_settledLine : MethodName := ⟨RX1, "settledLine", "(I)[I"⟩
def dkwX1_settledLine_2 : List UInt8 := [184, 0, 166, 154, 0, 5, 1, 176, 44, 29, 21, 4, 184, 0, 170, 79, 132, 3, 1, 167, 255, 203, 44, 176]
abbrev dktX1_settledLine_2 : List UInt8 := dkwX1_settledLine_2 ++ []
def dkwX1_settledLine_1 : List UInt8 := [180, 0, 42, 180, 0, 159, 42, 180, 0, 37, 180, 0, 162, 27, 50, 29, 46, 46, 54, 4, 21, 4]
abbrev dktX1_settledLine_1 : List UInt8 := dkwX1_settledLine_1 ++ dktX1_settledLine_2
def dkwX1_settledLine_0 : List UInt8 := [42, 180, 0, 37, 180, 0, 108, 188, 10, 77, 3, 62, 29, 42, 180, 0, 37, 180, 0, 108, 162, 0, 48, 42]
abbrev dktX1_settledLine_0 : List UInt8 := dkwX1_settledLine_0 ++ dktX1_settledLine_1
theorem dksX1_settledLine_0 : cX1_settledLine.data.toList.drop 0 = dktX1_settledLine_0 := by decide +kernel
theorem dksX1_settledLine_1 : cX1_settledLine.data.toList.drop 24 = dktX1_settledLine_1 := dk_seg dksX1_settledLine_0 24 rfl rfl
theorem dksX1_settledLine_2 : cX1_settledLine.data.toList.drop 46 = dktX1_settledLine_2 := dk_seg dksX1_settledLine_1 22 rfl rfl
theorem dX1_settledLine_0 : decode cX1_settledLine 0 = .ok (.aload_n 0, 1) := dk_42 (dk_at dksX1_settledLine_0 0 rfl rfl)
theorem dX1_settledLine_1 : decode cX1_settledLine 1 = .ok (.getfield 37, 3) := dk_180 0 37 (dk_at dksX1_settledLine_0 1 rfl rfl)
theorem dX1_settledLine_4 : decode cX1_settledLine 4 = .ok (.getfield 108, 3) := dk_180 0 108 (dk_at dksX1_settledLine_0 4 rfl rfl)
theorem dX1_settledLine_7 : decode cX1_settledLine 7 = .ok (.newarray .int, 2) := dk_188_10 (dk_at dksX1_settledLine_0 7 rfl rfl)
theorem dX1_settledLine_9 : decode cX1_settledLine 9 = .ok (.astore_n 2, 1) := dk_77 (dk_at dksX1_settledLine_0 9 rfl rfl)
theorem dX1_settledLine_10 : decode cX1_settledLine 10 = .ok (.iconst 0, 1) := dk_3 (dk_at dksX1_settledLine_0 10 rfl rfl)
theorem dX1_settledLine_11 : decode cX1_settledLine 11 = .ok (.istore_n 3, 1) := dk_62 (dk_at dksX1_settledLine_0 11 rfl rfl)
theorem dX1_settledLine_12 : decode cX1_settledLine 12 = .ok (.iload_n 3, 1) := dk_29 (dk_at dksX1_settledLine_0 12 rfl rfl)
theorem dX1_settledLine_13 : decode cX1_settledLine 13 = .ok (.aload_n 0, 1) := dk_42 (dk_at dksX1_settledLine_0 13 rfl rfl)
theorem dX1_settledLine_14 : decode cX1_settledLine 14 = .ok (.getfield 37, 3) := dk_180 0 37 (dk_at dksX1_settledLine_0 14 rfl rfl)
theorem dX1_settledLine_17 : decode cX1_settledLine 17 = .ok (.getfield 108, 3) := dk_180 0 108 (dk_at dksX1_settledLine_0 17 rfl rfl)
theorem dX1_settledLine_20 : decode cX1_settledLine 20 = .ok (.if_icmp .ge 48, 3) := dk_162 0 48 (dk_at dksX1_settledLine_0 20 rfl rfl)
theorem dX1_settledLine_23 : decode cX1_settledLine 23 = .ok (.aload_n 0, 1) := dk_42 (dk_at dksX1_settledLine_0 23 rfl rfl)
theorem dX1_settledLine_24 : decode cX1_settledLine 24 = .ok (.getfield 42, 3) := dk_180 0 42 (dk_at dksX1_settledLine_1 0 rfl rfl)
theorem dX1_settledLine_27 : decode cX1_settledLine 27 = .ok (.getfield 159, 3) := dk_180 0 159 (dk_at dksX1_settledLine_1 3 rfl rfl)
theorem dX1_settledLine_30 : decode cX1_settledLine 30 = .ok (.aload_n 0, 1) := dk_42 (dk_at dksX1_settledLine_1 6 rfl rfl)
theorem dX1_settledLine_31 : decode cX1_settledLine 31 = .ok (.getfield 37, 3) := dk_180 0 37 (dk_at dksX1_settledLine_1 7 rfl rfl)
theorem dX1_settledLine_34 : decode cX1_settledLine 34 = .ok (.getfield 162, 3) := dk_180 0 162 (dk_at dksX1_settledLine_1 10 rfl rfl)
theorem dX1_settledLine_37 : decode cX1_settledLine 37 = .ok (.iload_n 1, 1) := dk_27 (dk_at dksX1_settledLine_1 13 rfl rfl)
theorem dX1_settledLine_38 : decode cX1_settledLine 38 = .ok (.aaload, 1) := dk_50 (dk_at dksX1_settledLine_1 14 rfl rfl)
theorem dX1_settledLine_39 : decode cX1_settledLine 39 = .ok (.iload_n 3, 1) := dk_29 (dk_at dksX1_settledLine_1 15 rfl rfl)
theorem dX1_settledLine_40 : decode cX1_settledLine 40 = .ok (.iaload, 1) := dk_46 (dk_at dksX1_settledLine_1 16 rfl rfl)
theorem dX1_settledLine_41 : decode cX1_settledLine 41 = .ok (.iaload, 1) := dk_46 (dk_at dksX1_settledLine_1 17 rfl rfl)
theorem dX1_settledLine_42 : decode cX1_settledLine 42 = .ok (.istore 4, 2) := dk_54 4 (dk_at dksX1_settledLine_1 18 rfl rfl)
theorem dX1_settledLine_44 : decode cX1_settledLine 44 = .ok (.iload 4, 2) := dk_21 4 (dk_at dksX1_settledLine_1 20 rfl rfl)
theorem dX1_settledLine_46 : decode cX1_settledLine 46 = .ok (.invokestatic 166, 3) := dk_184 0 166 (dk_at dksX1_settledLine_2 0 rfl rfl)
theorem dX1_settledLine_49 : decode cX1_settledLine 49 = .ok (.ifCond .ne 5, 3) := dk_154 0 5 (dk_at dksX1_settledLine_2 3 rfl rfl)
theorem dX1_settledLine_52 : decode cX1_settledLine 52 = .ok (.aconst_null, 1) := dk_1 (dk_at dksX1_settledLine_2 6 rfl rfl)
theorem dX1_settledLine_53 : decode cX1_settledLine 53 = .ok (.areturn, 1) := dk_176 (dk_at dksX1_settledLine_2 7 rfl rfl)
theorem dX1_settledLine_54 : decode cX1_settledLine 54 = .ok (.aload_n 2, 1) := dk_44 (dk_at dksX1_settledLine_2 8 rfl rfl)
theorem dX1_settledLine_55 : decode cX1_settledLine 55 = .ok (.iload_n 3, 1) := dk_29 (dk_at dksX1_settledLine_2 9 rfl rfl)
theorem dX1_settledLine_56 : decode cX1_settledLine 56 = .ok (.iload 4, 2) := dk_21 4 (dk_at dksX1_settledLine_2 10 rfl rfl)
theorem dX1_settledLine_58 : decode cX1_settledLine 58 = .ok (.invokestatic 170, 3) := dk_184 0 170 (dk_at dksX1_settledLine_2 12 rfl rfl)
theorem dX1_settledLine_61 : decode cX1_settledLine 61 = .ok (.iastore, 1) := dk_79 (dk_at dksX1_settledLine_2 15 rfl rfl)
theorem dX1_settledLine_62 : decode cX1_settledLine 62 = .ok (.iinc 3 1, 3) := dk_132 3 1 (dk_at dksX1_settledLine_2 16 rfl rfl)
theorem dX1_settledLine_65 : decode cX1_settledLine 65 = .ok (.goto (-53), 3) := dk_167 255 203 (dk_at dksX1_settledLine_2 19 rfl rfl)
theorem dX1_settledLine_68 : decode cX1_settledLine 68 = .ok (.aload_n 2, 1) := dk_44 (dk_at dksX1_settledLine_2 22 rfl rfl)
theorem dX1_settledLine_69 : decode cX1_settledLine 69 = .ok (.areturn, 1) := dk_176 (dk_at dksX1_settledLine_2 23 rfl rfl)
abbrev cX1_isSingle : ByteArray := prog_1_method_3_code
def yX1_isSingle : MethodName := ⟨RX1, "isSingle", "(I)Z"⟩
def dkwX1_isSingle_0 : List UInt8 := [26, 153, 0, 15, 26, 26, 4, 100, 126, 154, 0, 7, 4, 167, 0, 4, 3, 172]
abbrev dktX1_isSingle_0 : List UInt8 := dkwX1_isSingle_0 ++ []
theorem dksX1_isSingle_0 : cX1_isSingle.data.toList.drop 0 = dktX1_isSingle_0 := by decide +kernel
theorem dX1_isSingle_0 : decode cX1_isSingle 0 = .ok (.iload_n 0, 1) := dk_26 (dk_at dksX1_isSingle_0 0 rfl rfl)
theorem dX1_isSingle_1 : decode cX1_isSingle 1 = .ok (.ifCond .eq 15, 3) := dk_153 0 15 (dk_at dksX1_isSingle_0 1 rfl rfl)
theorem dX1_isSingle_4 : decode cX1_isSingle 4 = .ok (.iload_n 0, 1) := dk_26 (dk_at dksX1_isSingle_0 4 rfl rfl)
theorem dX1_isSingle_5 : decode cX1_isSingle 5 = .ok (.iload_n 0, 1) := dk_26 (dk_at dksX1_isSingle_0 5 rfl rfl)
theorem dX1_isSingle_6 : decode cX1_isSingle 6 = .ok (.iconst 1, 1) := dk_4 (dk_at dksX1_isSingle_0 6 rfl rfl)
theorem dX1_isSingle_7 : decode cX1_isSingle 7 = .ok (.isub, 1) := dk_100 (dk_at dksX1_isSingle_0 7 rfl rfl)
theorem dX1_isSingle_8 : decode cX1_isSingle 8 = .ok (.iand, 1) := dk_126 (dk_at dksX1_isSingle_0 8 rfl rfl)
theorem dX1_isSingle_9 : decode cX1_isSingle 9 = .ok (.ifCond .ne 7, 3) := dk_154 0 7 (dk_at dksX1_isSingle_0 9 rfl rfl)
theorem dX1_isSingle_12 : decode cX1_isSingle 12 = .ok (.iconst 1, 1) := dk_4 (dk_at dksX1_isSingle_0 12 rfl rfl)
theorem dX1_isSingle_13 : decode cX1_isSingle 13 = .ok (.goto 4, 3) := dk_167 0 4 (dk_at dksX1_isSingle_0 13 rfl rfl)
theorem dX1_isSingle_16 : decode cX1_isSingle 16 = .ok (.iconst 0, 1) := dk_3 (dk_at dksX1_isSingle_0 16 rfl rfl)
theorem dX1_isSingle_17 : decode cX1_isSingle 17 = .ok (.ireturn, 1) := dk_172 (dk_at dksX1_isSingle_0 17 rfl rfl)
abbrev cX1_isComplete : ByteArray := prog_1_method_24_code
def yX1_isComplete : MethodName := ⟨RX1, "isComplete", "([I)Z"⟩
def dkwX1_isComplete_4 : List UInt8 := [4, 167, 0, 4, 3, 172]
abbrev dktX1_isComplete_4 : List UInt8 := dkwX1_isComplete_4 ++ []
def dkwX1_isComplete_3 : List UInt8 := [160, 0, 28, 28, 4, 42, 180, 0, 37, 180, 0, 112, 120, 128, 42, 180, 0, 42, 182, 0, 176, 160, 0, 7]
abbrev dktX1_isComplete_3 : List UInt8 := dkwX1_isComplete_3 ++ dktX1_isComplete_4
def dkwX1_isComplete_2 : List UInt8 := [162, 0, 7, 4, 167, 0, 4, 3, 96, 62, 132, 6, 1, 167, 255, 212, 29, 42, 180, 0, 37, 180, 0, 112]
abbrev dktX1_isComplete_2 : List UInt8 := dkwX1_isComplete_2 ++ dktX1_isComplete_3
def dkwX1_isComplete_1 : List UInt8 := [21, 6, 46, 54, 7, 28, 4, 21, 7, 120, 128, 61, 29, 21, 7, 42, 180, 0, 37, 180, 0, 112]
abbrev dktX1_isComplete_1 : List UInt8 := dkwX1_isComplete_1 ++ dktX1_isComplete_2
def dkwX1_isComplete_0 : List UInt8 := [3, 61, 3, 62, 43, 58, 4, 25, 4, 190, 54, 5, 3, 54, 6, 21, 6, 21, 5, 162, 0, 43, 25, 4]
abbrev dktX1_isComplete_0 : List UInt8 := dkwX1_isComplete_0 ++ dktX1_isComplete_1
theorem dksX1_isComplete_0 : cX1_isComplete.data.toList.drop 0 = dktX1_isComplete_0 := by decide +kernel
theorem dksX1_isComplete_1 : cX1_isComplete.data.toList.drop 24 = dktX1_isComplete_1 := dk_seg dksX1_isComplete_0 24 rfl rfl
theorem dksX1_isComplete_2 : cX1_isComplete.data.toList.drop 46 = dktX1_isComplete_2 := dk_seg dksX1_isComplete_1 22 rfl rfl
theorem dksX1_isComplete_3 : cX1_isComplete.data.toList.drop 70 = dktX1_isComplete_3 := dk_seg dksX1_isComplete_2 24 rfl rfl
theorem dksX1_isComplete_4 : cX1_isComplete.data.toList.drop 94 = dktX1_isComplete_4 := dk_seg dksX1_isComplete_3 24 rfl rfl
theorem dX1_isComplete_0 : decode cX1_isComplete 0 = .ok (.iconst 0, 1) := dk_3 (dk_at dksX1_isComplete_0 0 rfl rfl)
theorem dX1_isComplete_1 : decode cX1_isComplete 1 = .ok (.istore_n 2, 1) := dk_61 (dk_at dksX1_isComplete_0 1 rfl rfl)
theorem dX1_isComplete_2 : decode cX1_isComplete 2 = .ok (.iconst 0, 1) := dk_3 (dk_at dksX1_isComplete_0 2 rfl rfl)
theorem dX1_isComplete_3 : decode cX1_isComplete 3 = .ok (.istore_n 3, 1) := dk_62 (dk_at dksX1_isComplete_0 3 rfl rfl)
theorem dX1_isComplete_4 : decode cX1_isComplete 4 = .ok (.aload_n 1, 1) := dk_43 (dk_at dksX1_isComplete_0 4 rfl rfl)
theorem dX1_isComplete_5 : decode cX1_isComplete 5 = .ok (.astore 4, 2) := dk_58 4 (dk_at dksX1_isComplete_0 5 rfl rfl)
theorem dX1_isComplete_7 : decode cX1_isComplete 7 = .ok (.aload 4, 2) := dk_25 4 (dk_at dksX1_isComplete_0 7 rfl rfl)
theorem dX1_isComplete_9 : decode cX1_isComplete 9 = .ok (.arraylength, 1) := dk_190 (dk_at dksX1_isComplete_0 9 rfl rfl)
theorem dX1_isComplete_10 : decode cX1_isComplete 10 = .ok (.istore 5, 2) := dk_54 5 (dk_at dksX1_isComplete_0 10 rfl rfl)
theorem dX1_isComplete_12 : decode cX1_isComplete 12 = .ok (.iconst 0, 1) := dk_3 (dk_at dksX1_isComplete_0 12 rfl rfl)
theorem dX1_isComplete_13 : decode cX1_isComplete 13 = .ok (.istore 6, 2) := dk_54 6 (dk_at dksX1_isComplete_0 13 rfl rfl)
theorem dX1_isComplete_15 : decode cX1_isComplete 15 = .ok (.iload 6, 2) := dk_21 6 (dk_at dksX1_isComplete_0 15 rfl rfl)
theorem dX1_isComplete_17 : decode cX1_isComplete 17 = .ok (.iload 5, 2) := dk_21 5 (dk_at dksX1_isComplete_0 17 rfl rfl)
theorem dX1_isComplete_19 : decode cX1_isComplete 19 = .ok (.if_icmp .ge 43, 3) := dk_162 0 43 (dk_at dksX1_isComplete_0 19 rfl rfl)
theorem dX1_isComplete_22 : decode cX1_isComplete 22 = .ok (.aload 4, 2) := dk_25 4 (dk_at dksX1_isComplete_0 22 rfl rfl)
theorem dX1_isComplete_24 : decode cX1_isComplete 24 = .ok (.iload 6, 2) := dk_21 6 (dk_at dksX1_isComplete_1 0 rfl rfl)
theorem dX1_isComplete_26 : decode cX1_isComplete 26 = .ok (.iaload, 1) := dk_46 (dk_at dksX1_isComplete_1 2 rfl rfl)
theorem dX1_isComplete_27 : decode cX1_isComplete 27 = .ok (.istore 7, 2) := dk_54 7 (dk_at dksX1_isComplete_1 3 rfl rfl)
theorem dX1_isComplete_29 : decode cX1_isComplete 29 = .ok (.iload_n 2, 1) := dk_28 (dk_at dksX1_isComplete_1 5 rfl rfl)
theorem dX1_isComplete_30 : decode cX1_isComplete 30 = .ok (.iconst 1, 1) := dk_4 (dk_at dksX1_isComplete_1 6 rfl rfl)
theorem dX1_isComplete_31 : decode cX1_isComplete 31 = .ok (.iload 7, 2) := dk_21 7 (dk_at dksX1_isComplete_1 7 rfl rfl)
theorem dX1_isComplete_33 : decode cX1_isComplete 33 = .ok (.ishl, 1) := dk_120 (dk_at dksX1_isComplete_1 9 rfl rfl)
theorem dX1_isComplete_34 : decode cX1_isComplete 34 = .ok (.ior, 1) := dk_128 (dk_at dksX1_isComplete_1 10 rfl rfl)
theorem dX1_isComplete_35 : decode cX1_isComplete 35 = .ok (.istore_n 2, 1) := dk_61 (dk_at dksX1_isComplete_1 11 rfl rfl)
theorem dX1_isComplete_36 : decode cX1_isComplete 36 = .ok (.iload_n 3, 1) := dk_29 (dk_at dksX1_isComplete_1 12 rfl rfl)
theorem dX1_isComplete_37 : decode cX1_isComplete 37 = .ok (.iload 7, 2) := dk_21 7 (dk_at dksX1_isComplete_1 13 rfl rfl)
theorem dX1_isComplete_39 : decode cX1_isComplete 39 = .ok (.aload_n 0, 1) := dk_42 (dk_at dksX1_isComplete_1 15 rfl rfl)
theorem dX1_isComplete_40 : decode cX1_isComplete 40 = .ok (.getfield 37, 3) := dk_180 0 37 (dk_at dksX1_isComplete_1 16 rfl rfl)
theorem dX1_isComplete_43 : decode cX1_isComplete 43 = .ok (.getfield 112, 3) := dk_180 0 112 (dk_at dksX1_isComplete_1 19 rfl rfl)
theorem dX1_isComplete_46 : decode cX1_isComplete 46 = .ok (.if_icmp .ge 7, 3) := dk_162 0 7 (dk_at dksX1_isComplete_2 0 rfl rfl)
theorem dX1_isComplete_49 : decode cX1_isComplete 49 = .ok (.iconst 1, 1) := dk_4 (dk_at dksX1_isComplete_2 3 rfl rfl)
theorem dX1_isComplete_50 : decode cX1_isComplete 50 = .ok (.goto 4, 3) := dk_167 0 4 (dk_at dksX1_isComplete_2 4 rfl rfl)
theorem dX1_isComplete_53 : decode cX1_isComplete 53 = .ok (.iconst 0, 1) := dk_3 (dk_at dksX1_isComplete_2 7 rfl rfl)
theorem dX1_isComplete_54 : decode cX1_isComplete 54 = .ok (.iadd, 1) := dk_96 (dk_at dksX1_isComplete_2 8 rfl rfl)
theorem dX1_isComplete_55 : decode cX1_isComplete 55 = .ok (.istore_n 3, 1) := dk_62 (dk_at dksX1_isComplete_2 9 rfl rfl)
theorem dX1_isComplete_56 : decode cX1_isComplete 56 = .ok (.iinc 6 1, 3) := dk_132 6 1 (dk_at dksX1_isComplete_2 10 rfl rfl)
theorem dX1_isComplete_59 : decode cX1_isComplete 59 = .ok (.goto (-44), 3) := dk_167 255 212 (dk_at dksX1_isComplete_2 13 rfl rfl)
theorem dX1_isComplete_62 : decode cX1_isComplete 62 = .ok (.iload_n 3, 1) := dk_29 (dk_at dksX1_isComplete_2 16 rfl rfl)
theorem dX1_isComplete_63 : decode cX1_isComplete 63 = .ok (.aload_n 0, 1) := dk_42 (dk_at dksX1_isComplete_2 17 rfl rfl)
theorem dX1_isComplete_64 : decode cX1_isComplete 64 = .ok (.getfield 37, 3) := dk_180 0 37 (dk_at dksX1_isComplete_2 18 rfl rfl)
theorem dX1_isComplete_67 : decode cX1_isComplete 67 = .ok (.getfield 112, 3) := dk_180 0 112 (dk_at dksX1_isComplete_2 21 rfl rfl)
theorem dX1_isComplete_70 : decode cX1_isComplete 70 = .ok (.if_icmp .ne 28, 3) := dk_160 0 28 (dk_at dksX1_isComplete_3 0 rfl rfl)
theorem dX1_isComplete_73 : decode cX1_isComplete 73 = .ok (.iload_n 2, 1) := dk_28 (dk_at dksX1_isComplete_3 3 rfl rfl)
theorem dX1_isComplete_74 : decode cX1_isComplete 74 = .ok (.iconst 1, 1) := dk_4 (dk_at dksX1_isComplete_3 4 rfl rfl)
theorem dX1_isComplete_75 : decode cX1_isComplete 75 = .ok (.aload_n 0, 1) := dk_42 (dk_at dksX1_isComplete_3 5 rfl rfl)
theorem dX1_isComplete_76 : decode cX1_isComplete 76 = .ok (.getfield 37, 3) := dk_180 0 37 (dk_at dksX1_isComplete_3 6 rfl rfl)
theorem dX1_isComplete_79 : decode cX1_isComplete 79 = .ok (.getfield 112, 3) := dk_180 0 112 (dk_at dksX1_isComplete_3 9 rfl rfl)
theorem dX1_isComplete_82 : decode cX1_isComplete 82 = .ok (.ishl, 1) := dk_120 (dk_at dksX1_isComplete_3 12 rfl rfl)
theorem dX1_isComplete_83 : decode cX1_isComplete 83 = .ok (.ior, 1) := dk_128 (dk_at dksX1_isComplete_3 13 rfl rfl)
theorem dX1_isComplete_84 : decode cX1_isComplete 84 = .ok (.aload_n 0, 1) := dk_42 (dk_at dksX1_isComplete_3 14 rfl rfl)
theorem dX1_isComplete_85 : decode cX1_isComplete 85 = .ok (.getfield 42, 3) := dk_180 0 42 (dk_at dksX1_isComplete_3 15 rfl rfl)
theorem dX1_isComplete_88 : decode cX1_isComplete 88 = .ok (.invokevirtual 176, 3) := dk_182 0 176 (dk_at dksX1_isComplete_3 18 rfl rfl)
theorem dX1_isComplete_91 : decode cX1_isComplete 91 = .ok (.if_icmp .ne 7, 3) := dk_160 0 7 (dk_at dksX1_isComplete_3 21 rfl rfl)
theorem dX1_isComplete_94 : decode cX1_isComplete 94 = .ok (.iconst 1, 1) := dk_4 (dk_at dksX1_isComplete_4 0 rfl rfl)
theorem dX1_isComplete_95 : decode cX1_isComplete 95 = .ok (.goto 4, 3) := dk_167 0 4 (dk_at dksX1_isComplete_4 1 rfl rfl)
theorem dX1_isComplete_98 : decode cX1_isComplete 98 = .ok (.iconst 0, 1) := dk_3 (dk_at dksX1_isComplete_4 4 rfl rfl)
theorem dX1_isComplete_99 : decode cX1_isComplete 99 = .ok (.ireturn, 1) := dk_172 (dk_at dksX1_isComplete_4 5 rfl rfl)
abbrev cX1_seen : ByteArray := prog_1_method_8_code
def yX1_seen : MethodName := ⟨RX1, "seen", "(IIZ[I)I"⟩
def dkwX1_seen_2 : List UInt8 := [132, 4, 255, 132, 5, 1, 167, 255, 209, 2, 172]
abbrev dktX1_seen_2 : List UInt8 := dkwX1_seen_2 ++ []
def dkwX1_seen_1 : List UInt8 := [100, 167, 0, 5, 21, 5, 46, 54, 6, 21, 6, 26, 162, 0, 14, 21, 4, 154, 0, 6, 21, 6, 172]
abbrev dktX1_seen_1 : List UInt8 := dkwX1_seen_1 ++ dktX1_seen_2
def dkwX1_seen_0 : List UInt8 := [27, 54, 4, 3, 54, 5, 21, 5, 45, 190, 162, 0, 46, 45, 28, 153, 0, 13, 45, 190, 4, 100, 21, 5]
abbrev dktX1_seen_0 : List UInt8 := dkwX1_seen_0 ++ dktX1_seen_1
theorem dksX1_seen_0 : cX1_seen.data.toList.drop 0 = dktX1_seen_0 := by decide +kernel
theorem dksX1_seen_1 : cX1_seen.data.toList.drop 24 = dktX1_seen_1 := dk_seg dksX1_seen_0 24 rfl rfl
theorem dksX1_seen_2 : cX1_seen.data.toList.drop 47 = dktX1_seen_2 := dk_seg dksX1_seen_1 23 rfl rfl
theorem dX1_seen_0 : decode cX1_seen 0 = .ok (.iload_n 1, 1) := dk_27 (dk_at dksX1_seen_0 0 rfl rfl)
theorem dX1_seen_1 : decode cX1_seen 1 = .ok (.istore 4, 2) := dk_54 4 (dk_at dksX1_seen_0 1 rfl rfl)
theorem dX1_seen_3 : decode cX1_seen 3 = .ok (.iconst 0, 1) := dk_3 (dk_at dksX1_seen_0 3 rfl rfl)
theorem dX1_seen_4 : decode cX1_seen 4 = .ok (.istore 5, 2) := dk_54 5 (dk_at dksX1_seen_0 4 rfl rfl)
theorem dX1_seen_6 : decode cX1_seen 6 = .ok (.iload 5, 2) := dk_21 5 (dk_at dksX1_seen_0 6 rfl rfl)
theorem dX1_seen_8 : decode cX1_seen 8 = .ok (.aload_n 3, 1) := dk_45 (dk_at dksX1_seen_0 8 rfl rfl)
theorem dX1_seen_9 : decode cX1_seen 9 = .ok (.arraylength, 1) := dk_190 (dk_at dksX1_seen_0 9 rfl rfl)
theorem dX1_seen_10 : decode cX1_seen 10 = .ok (.if_icmp .ge 46, 3) := dk_162 0 46 (dk_at dksX1_seen_0 10 rfl rfl)
theorem dX1_seen_13 : decode cX1_seen 13 = .ok (.aload_n 3, 1) := dk_45 (dk_at dksX1_seen_0 13 rfl rfl)
theorem dX1_seen_14 : decode cX1_seen 14 = .ok (.iload_n 2, 1) := dk_28 (dk_at dksX1_seen_0 14 rfl rfl)
theorem dX1_seen_15 : decode cX1_seen 15 = .ok (.ifCond .eq 13, 3) := dk_153 0 13 (dk_at dksX1_seen_0 15 rfl rfl)
theorem dX1_seen_18 : decode cX1_seen 18 = .ok (.aload_n 3, 1) := dk_45 (dk_at dksX1_seen_0 18 rfl rfl)
theorem dX1_seen_19 : decode cX1_seen 19 = .ok (.arraylength, 1) := dk_190 (dk_at dksX1_seen_0 19 rfl rfl)
theorem dX1_seen_20 : decode cX1_seen 20 = .ok (.iconst 1, 1) := dk_4 (dk_at dksX1_seen_0 20 rfl rfl)
theorem dX1_seen_21 : decode cX1_seen 21 = .ok (.isub, 1) := dk_100 (dk_at dksX1_seen_0 21 rfl rfl)
theorem dX1_seen_22 : decode cX1_seen 22 = .ok (.iload 5, 2) := dk_21 5 (dk_at dksX1_seen_0 22 rfl rfl)
theorem dX1_seen_24 : decode cX1_seen 24 = .ok (.isub, 1) := dk_100 (dk_at dksX1_seen_1 0 rfl rfl)
theorem dX1_seen_25 : decode cX1_seen 25 = .ok (.goto 5, 3) := dk_167 0 5 (dk_at dksX1_seen_1 1 rfl rfl)
theorem dX1_seen_28 : decode cX1_seen 28 = .ok (.iload 5, 2) := dk_21 5 (dk_at dksX1_seen_1 4 rfl rfl)
theorem dX1_seen_30 : decode cX1_seen 30 = .ok (.iaload, 1) := dk_46 (dk_at dksX1_seen_1 6 rfl rfl)
theorem dX1_seen_31 : decode cX1_seen 31 = .ok (.istore 6, 2) := dk_54 6 (dk_at dksX1_seen_1 7 rfl rfl)
theorem dX1_seen_33 : decode cX1_seen 33 = .ok (.iload 6, 2) := dk_21 6 (dk_at dksX1_seen_1 9 rfl rfl)
theorem dX1_seen_35 : decode cX1_seen 35 = .ok (.iload_n 0, 1) := dk_26 (dk_at dksX1_seen_1 11 rfl rfl)
theorem dX1_seen_36 : decode cX1_seen 36 = .ok (.if_icmp .ge 14, 3) := dk_162 0 14 (dk_at dksX1_seen_1 12 rfl rfl)
theorem dX1_seen_39 : decode cX1_seen 39 = .ok (.iload 4, 2) := dk_21 4 (dk_at dksX1_seen_1 15 rfl rfl)
theorem dX1_seen_41 : decode cX1_seen 41 = .ok (.ifCond .ne 6, 3) := dk_154 0 6 (dk_at dksX1_seen_1 17 rfl rfl)
theorem dX1_seen_44 : decode cX1_seen 44 = .ok (.iload 6, 2) := dk_21 6 (dk_at dksX1_seen_1 20 rfl rfl)
theorem dX1_seen_46 : decode cX1_seen 46 = .ok (.ireturn, 1) := dk_172 (dk_at dksX1_seen_1 22 rfl rfl)
theorem dX1_seen_47 : decode cX1_seen 47 = .ok (.iinc 4 (-1), 3) := dk_132 4 255 (dk_at dksX1_seen_2 0 rfl rfl)
theorem dX1_seen_50 : decode cX1_seen 50 = .ok (.iinc 5 1, 3) := dk_132 5 1 (dk_at dksX1_seen_2 3 rfl rfl)
theorem dX1_seen_53 : decode cX1_seen 53 = .ok (.goto (-47), 3) := dk_167 255 209 (dk_at dksX1_seen_2 6 rfl rfl)
theorem dX1_seen_56 : decode cX1_seen 56 = .ok (.iconst (-1), 1) := dk_2 (dk_at dksX1_seen_2 9 rfl rfl)
theorem dX1_seen_57 : decode cX1_seen 57 = .ok (.ireturn, 1) := dk_172 (dk_at dksX1_seen_2 10 rfl rfl)
abbrev cX1_mirror : ByteArray := prog_1_method_27_code
def yX1_mirror : MethodName := ⟨RX1, "mirror", "()I"⟩
def dkwX1_mirror_5 : List UInt8 := [28, 29, 184, 0, 197, 182, 0, 138, 54, 4, 132, 3, 1, 167, 255, 217, 42, 180, 0, 37, 182, 0, 152, 172]
abbrev dktX1_mirror_5 : List UInt8 := dkwX1_mirror_5 ++ []
def dkwX1_mirror_4 : List UInt8 := [180, 0, 37, 182, 0, 90, 162, 0, 34, 42, 180, 0, 37, 42, 180, 0, 37, 29, 182, 0, 221, 43, 29, 46]
abbrev dktX1_mirror_4 : List UInt8 := dkwX1_mirror_4 ++ dktX1_mirror_5
def dkwX1_mirror_3 : List UInt8 := [180, 0, 212, 61, 42, 180, 0, 37, 180, 0, 145, 3, 43, 3, 16, 20, 184, 0, 215, 3, 62, 29, 42]
abbrev dktX1_mirror_3 : List UInt8 := dkwX1_mirror_3 ++ dktX1_mirror_4
def dkwX1_mirror_2 : List UInt8 := [180, 0, 51, 180, 0, 159, 27, 46, 79, 132, 1, 1, 167, 255, 217, 16, 20, 188, 10, 76, 42, 180, 0, 37]
abbrev dktX1_mirror_2 : List UInt8 := dkwX1_mirror_2 ++ dktX1_mirror_3
def dkwX1_mirror_1 : List UInt8 := [182, 0, 98, 162, 0, 34, 42, 180, 0, 42, 180, 0, 159, 42, 180, 0, 37, 27, 182, 0, 209, 42]
abbrev dktX1_mirror_1 : List UInt8 := dkwX1_mirror_1 ++ dktX1_mirror_2
def dkwX1_mirror_0 : List UInt8 := [42, 4, 182, 0, 115, 42, 180, 0, 51, 42, 180, 0, 42, 182, 0, 205, 3, 60, 27, 42, 180, 0, 37]
abbrev dktX1_mirror_0 : List UInt8 := dkwX1_mirror_0 ++ dktX1_mirror_1
theorem dksX1_mirror_0 : cX1_mirror.data.toList.drop 0 = dktX1_mirror_0 := by decide +kernel
theorem dksX1_mirror_1 : cX1_mirror.data.toList.drop 23 = dktX1_mirror_1 := dk_seg dksX1_mirror_0 23 rfl rfl
theorem dksX1_mirror_2 : cX1_mirror.data.toList.drop 45 = dktX1_mirror_2 := dk_seg dksX1_mirror_1 22 rfl rfl
theorem dksX1_mirror_3 : cX1_mirror.data.toList.drop 69 = dktX1_mirror_3 := dk_seg dksX1_mirror_2 24 rfl rfl
theorem dksX1_mirror_4 : cX1_mirror.data.toList.drop 92 = dktX1_mirror_4 := dk_seg dksX1_mirror_3 23 rfl rfl
theorem dksX1_mirror_5 : cX1_mirror.data.toList.drop 116 = dktX1_mirror_5 := dk_seg dksX1_mirror_4 24 rfl rfl
theorem dX1_mirror_0 : decode cX1_mirror 0 = .ok (.aload_n 0, 1) := dk_42 (dk_at dksX1_mirror_0 0 rfl rfl)
theorem dX1_mirror_1 : decode cX1_mirror 1 = .ok (.iconst 1, 1) := dk_4 (dk_at dksX1_mirror_0 1 rfl rfl)
theorem dX1_mirror_2 : decode cX1_mirror 2 = .ok (.invokevirtual 115, 3) := dk_182 0 115 (dk_at dksX1_mirror_0 2 rfl rfl)
theorem dX1_mirror_5 : decode cX1_mirror 5 = .ok (.aload_n 0, 1) := dk_42 (dk_at dksX1_mirror_0 5 rfl rfl)
theorem dX1_mirror_6 : decode cX1_mirror 6 = .ok (.getfield 51, 3) := dk_180 0 51 (dk_at dksX1_mirror_0 6 rfl rfl)
theorem dX1_mirror_9 : decode cX1_mirror 9 = .ok (.aload_n 0, 1) := dk_42 (dk_at dksX1_mirror_0 9 rfl rfl)
theorem dX1_mirror_10 : decode cX1_mirror 10 = .ok (.getfield 42, 3) := dk_180 0 42 (dk_at dksX1_mirror_0 10 rfl rfl)
theorem dX1_mirror_13 : decode cX1_mirror 13 = .ok (.invokevirtual 205, 3) := dk_182 0 205 (dk_at dksX1_mirror_0 13 rfl rfl)
theorem dX1_mirror_16 : decode cX1_mirror 16 = .ok (.iconst 0, 1) := dk_3 (dk_at dksX1_mirror_0 16 rfl rfl)
theorem dX1_mirror_17 : decode cX1_mirror 17 = .ok (.istore_n 1, 1) := dk_60 (dk_at dksX1_mirror_0 17 rfl rfl)
theorem dX1_mirror_18 : decode cX1_mirror 18 = .ok (.iload_n 1, 1) := dk_27 (dk_at dksX1_mirror_0 18 rfl rfl)
theorem dX1_mirror_19 : decode cX1_mirror 19 = .ok (.aload_n 0, 1) := dk_42 (dk_at dksX1_mirror_0 19 rfl rfl)
theorem dX1_mirror_20 : decode cX1_mirror 20 = .ok (.getfield 37, 3) := dk_180 0 37 (dk_at dksX1_mirror_0 20 rfl rfl)
theorem dX1_mirror_23 : decode cX1_mirror 23 = .ok (.invokevirtual 98, 3) := dk_182 0 98 (dk_at dksX1_mirror_1 0 rfl rfl)
theorem dX1_mirror_26 : decode cX1_mirror 26 = .ok (.if_icmp .ge 34, 3) := dk_162 0 34 (dk_at dksX1_mirror_1 3 rfl rfl)
theorem dX1_mirror_29 : decode cX1_mirror 29 = .ok (.aload_n 0, 1) := dk_42 (dk_at dksX1_mirror_1 6 rfl rfl)
theorem dX1_mirror_30 : decode cX1_mirror 30 = .ok (.getfield 42, 3) := dk_180 0 42 (dk_at dksX1_mirror_1 7 rfl rfl)
theorem dX1_mirror_33 : decode cX1_mirror 33 = .ok (.getfield 159, 3) := dk_180 0 159 (dk_at dksX1_mirror_1 10 rfl rfl)
theorem dX1_mirror_36 : decode cX1_mirror 36 = .ok (.aload_n 0, 1) := dk_42 (dk_at dksX1_mirror_1 13 rfl rfl)
theorem dX1_mirror_37 : decode cX1_mirror 37 = .ok (.getfield 37, 3) := dk_180 0 37 (dk_at dksX1_mirror_1 14 rfl rfl)
theorem dX1_mirror_40 : decode cX1_mirror 40 = .ok (.iload_n 1, 1) := dk_27 (dk_at dksX1_mirror_1 17 rfl rfl)
theorem dX1_mirror_41 : decode cX1_mirror 41 = .ok (.invokevirtual 209, 3) := dk_182 0 209 (dk_at dksX1_mirror_1 18 rfl rfl)
theorem dX1_mirror_44 : decode cX1_mirror 44 = .ok (.aload_n 0, 1) := dk_42 (dk_at dksX1_mirror_1 21 rfl rfl)
theorem dX1_mirror_45 : decode cX1_mirror 45 = .ok (.getfield 51, 3) := dk_180 0 51 (dk_at dksX1_mirror_2 0 rfl rfl)
theorem dX1_mirror_48 : decode cX1_mirror 48 = .ok (.getfield 159, 3) := dk_180 0 159 (dk_at dksX1_mirror_2 3 rfl rfl)
theorem dX1_mirror_51 : decode cX1_mirror 51 = .ok (.iload_n 1, 1) := dk_27 (dk_at dksX1_mirror_2 6 rfl rfl)
theorem dX1_mirror_52 : decode cX1_mirror 52 = .ok (.iaload, 1) := dk_46 (dk_at dksX1_mirror_2 7 rfl rfl)
theorem dX1_mirror_53 : decode cX1_mirror 53 = .ok (.iastore, 1) := dk_79 (dk_at dksX1_mirror_2 8 rfl rfl)
theorem dX1_mirror_54 : decode cX1_mirror 54 = .ok (.iinc 1 1, 3) := dk_132 1 1 (dk_at dksX1_mirror_2 9 rfl rfl)
theorem dX1_mirror_57 : decode cX1_mirror 57 = .ok (.goto (-39), 3) := dk_167 255 217 (dk_at dksX1_mirror_2 12 rfl rfl)
theorem dX1_mirror_60 : decode cX1_mirror 60 = .ok (.bipush 20, 2) := dk_16 20 (dk_at dksX1_mirror_2 15 rfl rfl)
theorem dX1_mirror_62 : decode cX1_mirror 62 = .ok (.newarray .int, 2) := dk_188_10 (dk_at dksX1_mirror_2 17 rfl rfl)
theorem dX1_mirror_64 : decode cX1_mirror 64 = .ok (.astore_n 1, 1) := dk_76 (dk_at dksX1_mirror_2 19 rfl rfl)
theorem dX1_mirror_65 : decode cX1_mirror 65 = .ok (.aload_n 0, 1) := dk_42 (dk_at dksX1_mirror_2 20 rfl rfl)
theorem dX1_mirror_66 : decode cX1_mirror 66 = .ok (.getfield 37, 3) := dk_180 0 37 (dk_at dksX1_mirror_2 21 rfl rfl)
theorem dX1_mirror_69 : decode cX1_mirror 69 = .ok (.getfield 212, 3) := dk_180 0 212 (dk_at dksX1_mirror_3 0 rfl rfl)
theorem dX1_mirror_72 : decode cX1_mirror 72 = .ok (.istore_n 2, 1) := dk_61 (dk_at dksX1_mirror_3 3 rfl rfl)
theorem dX1_mirror_73 : decode cX1_mirror 73 = .ok (.aload_n 0, 1) := dk_42 (dk_at dksX1_mirror_3 4 rfl rfl)
theorem dX1_mirror_74 : decode cX1_mirror 74 = .ok (.getfield 37, 3) := dk_180 0 37 (dk_at dksX1_mirror_3 5 rfl rfl)
theorem dX1_mirror_77 : decode cX1_mirror 77 = .ok (.getfield 145, 3) := dk_180 0 145 (dk_at dksX1_mirror_3 8 rfl rfl)
theorem dX1_mirror_80 : decode cX1_mirror 80 = .ok (.iconst 0, 1) := dk_3 (dk_at dksX1_mirror_3 11 rfl rfl)
theorem dX1_mirror_81 : decode cX1_mirror 81 = .ok (.aload_n 1, 1) := dk_43 (dk_at dksX1_mirror_3 12 rfl rfl)
theorem dX1_mirror_82 : decode cX1_mirror 82 = .ok (.iconst 0, 1) := dk_3 (dk_at dksX1_mirror_3 13 rfl rfl)
theorem dX1_mirror_83 : decode cX1_mirror 83 = .ok (.bipush 20, 2) := dk_16 20 (dk_at dksX1_mirror_3 14 rfl rfl)
theorem dX1_mirror_85 : decode cX1_mirror 85 = .ok (.invokestatic 215, 3) := dk_184 0 215 (dk_at dksX1_mirror_3 16 rfl rfl)
theorem dX1_mirror_88 : decode cX1_mirror 88 = .ok (.iconst 0, 1) := dk_3 (dk_at dksX1_mirror_3 19 rfl rfl)
theorem dX1_mirror_89 : decode cX1_mirror 89 = .ok (.istore_n 3, 1) := dk_62 (dk_at dksX1_mirror_3 20 rfl rfl)
theorem dX1_mirror_90 : decode cX1_mirror 90 = .ok (.iload_n 3, 1) := dk_29 (dk_at dksX1_mirror_3 21 rfl rfl)
theorem dX1_mirror_91 : decode cX1_mirror 91 = .ok (.aload_n 0, 1) := dk_42 (dk_at dksX1_mirror_3 22 rfl rfl)
theorem dX1_mirror_92 : decode cX1_mirror 92 = .ok (.getfield 37, 3) := dk_180 0 37 (dk_at dksX1_mirror_4 0 rfl rfl)
theorem dX1_mirror_95 : decode cX1_mirror 95 = .ok (.invokevirtual 90, 3) := dk_182 0 90 (dk_at dksX1_mirror_4 3 rfl rfl)
theorem dX1_mirror_98 : decode cX1_mirror 98 = .ok (.if_icmp .ge 34, 3) := dk_162 0 34 (dk_at dksX1_mirror_4 6 rfl rfl)
theorem dX1_mirror_101 : decode cX1_mirror 101 = .ok (.aload_n 0, 1) := dk_42 (dk_at dksX1_mirror_4 9 rfl rfl)
theorem dX1_mirror_102 : decode cX1_mirror 102 = .ok (.getfield 37, 3) := dk_180 0 37 (dk_at dksX1_mirror_4 10 rfl rfl)
theorem dX1_mirror_105 : decode cX1_mirror 105 = .ok (.aload_n 0, 1) := dk_42 (dk_at dksX1_mirror_4 13 rfl rfl)
theorem dX1_mirror_106 : decode cX1_mirror 106 = .ok (.getfield 37, 3) := dk_180 0 37 (dk_at dksX1_mirror_4 14 rfl rfl)
theorem dX1_mirror_109 : decode cX1_mirror 109 = .ok (.iload_n 3, 1) := dk_29 (dk_at dksX1_mirror_4 17 rfl rfl)
theorem dX1_mirror_110 : decode cX1_mirror 110 = .ok (.invokevirtual 221, 3) := dk_182 0 221 (dk_at dksX1_mirror_4 18 rfl rfl)
theorem dX1_mirror_113 : decode cX1_mirror 113 = .ok (.aload_n 1, 1) := dk_43 (dk_at dksX1_mirror_4 21 rfl rfl)
theorem dX1_mirror_114 : decode cX1_mirror 114 = .ok (.iload_n 3, 1) := dk_29 (dk_at dksX1_mirror_4 22 rfl rfl)
theorem dX1_mirror_115 : decode cX1_mirror 115 = .ok (.iaload, 1) := dk_46 (dk_at dksX1_mirror_4 23 rfl rfl)
theorem dX1_mirror_116 : decode cX1_mirror 116 = .ok (.iload_n 2, 1) := dk_28 (dk_at dksX1_mirror_5 0 rfl rfl)
theorem dX1_mirror_117 : decode cX1_mirror 117 = .ok (.iload_n 3, 1) := dk_29 (dk_at dksX1_mirror_5 1 rfl rfl)
theorem dX1_mirror_118 : decode cX1_mirror 118 = .ok (.invokestatic 197, 3) := dk_184 0 197 (dk_at dksX1_mirror_5 2 rfl rfl)
theorem dX1_mirror_121 : decode cX1_mirror 121 = .ok (.invokevirtual 138, 3) := dk_182 0 138 (dk_at dksX1_mirror_5 5 rfl rfl)
theorem dX1_mirror_124 : decode cX1_mirror 124 = .ok (.istore 4, 2) := dk_54 4 (dk_at dksX1_mirror_5 8 rfl rfl)
theorem dX1_mirror_126 : decode cX1_mirror 126 = .ok (.iinc 3 1, 3) := dk_132 3 1 (dk_at dksX1_mirror_5 10 rfl rfl)
theorem dX1_mirror_129 : decode cX1_mirror 129 = .ok (.goto (-39), 3) := dk_167 255 217 (dk_at dksX1_mirror_5 13 rfl rfl)
theorem dX1_mirror_132 : decode cX1_mirror 132 = .ok (.aload_n 0, 1) := dk_42 (dk_at dksX1_mirror_5 16 rfl rfl)
theorem dX1_mirror_133 : decode cX1_mirror 133 = .ok (.getfield 37, 3) := dk_180 0 37 (dk_at dksX1_mirror_5 17 rfl rfl)
theorem dX1_mirror_136 : decode cX1_mirror 136 = .ok (.invokevirtual 152, 3) := dk_182 0 152 (dk_at dksX1_mirror_5 20 rfl rfl)
theorem dX1_mirror_139 : decode cX1_mirror 139 = .ok (.ireturn, 1) := dk_172 (dk_at dksX1_mirror_5 23 rfl rfl)
abbrev cX1_side : ByteArray := prog_1_method_28_code
def yX1_side : MethodName := ⟨RX1, "side", "()I"⟩
def dkwX1_side_0 : List UInt8 := [42, 180, 0, 37, 180, 0, 108, 172]
abbrev dktX1_side_0 : List UInt8 := dkwX1_side_0 ++ []
theorem dksX1_side_0 : cX1_side.data.toList.drop 0 = dktX1_side_0 := by decide +kernel
theorem dX1_side_0 : decode cX1_side 0 = .ok (.aload_n 0, 1) := dk_42 (dk_at dksX1_side_0 0 rfl rfl)
theorem dX1_side_1 : decode cX1_side 1 = .ok (.getfield 37, 3) := dk_180 0 37 (dk_at dksX1_side_0 1 rfl rfl)
theorem dX1_side_4 : decode cX1_side 4 = .ok (.getfield 108, 3) := dk_180 0 108 (dk_at dksX1_side_0 4 rfl rfl)
theorem dX1_side_7 : decode cX1_side 7 = .ok (.ireturn, 1) := dk_172 (dk_at dksX1_side_0 7 rfl rfl)
abbrev cX1_letterCount : ByteArray := prog_1_method_29_code
def yX1_letterCount : MethodName := ⟨RX1, "letterCount", "()I"⟩
def dkwX1_letterCount_0 : List UInt8 := [42, 180, 0, 37, 180, 0, 112, 172]
abbrev dktX1_letterCount_0 : List UInt8 := dkwX1_letterCount_0 ++ []
theorem dksX1_letterCount_0 : cX1_letterCount.data.toList.drop 0 = dktX1_letterCount_0 := by decide +kernel
theorem dX1_letterCount_0 : decode cX1_letterCount 0 = .ok (.aload_n 0, 1) := dk_42 (dk_at dksX1_letterCount_0 0 rfl rfl)
theorem dX1_letterCount_1 : decode cX1_letterCount 1 = .ok (.getfield 37, 3) := dk_180 0 37 (dk_at dksX1_letterCount_0 1 rfl rfl)
theorem dX1_letterCount_4 : decode cX1_letterCount 4 = .ok (.getfield 112, 3) := dk_180 0 112 (dk_at dksX1_letterCount_0 4 rfl rfl)
theorem dX1_letterCount_7 : decode cX1_letterCount 7 = .ok (.ireturn, 1) := dk_172 (dk_at dksX1_letterCount_0 7 rfl rfl)
abbrev cX1_lineCount : ByteArray := prog_1_method_30_code
def yX1_lineCount : MethodName := ⟨RX1, "lineCount", "()I"⟩
def dkwX1_lineCount_0 : List UInt8 := [42, 180, 0, 37, 182, 0, 101, 172]
abbrev dktX1_lineCount_0 : List UInt8 := dkwX1_lineCount_0 ++ []
theorem dksX1_lineCount_0 : cX1_lineCount.data.toList.drop 0 = dktX1_lineCount_0 := by decide +kernel
theorem dX1_lineCount_0 : decode cX1_lineCount 0 = .ok (.aload_n 0, 1) := dk_42 (dk_at dksX1_lineCount_0 0 rfl rfl)
theorem dX1_lineCount_1 : decode cX1_lineCount 1 = .ok (.getfield 37, 3) := dk_180 0 37 (dk_at dksX1_lineCount_0 1 rfl rfl)
theorem dX1_lineCount_4 : decode cX1_lineCount 4 = .ok (.invokevirtual 101, 3) := dk_182 0 101 (dk_at dksX1_lineCount_0 4 rfl rfl)
theorem dX1_lineCount_7 : decode cX1_lineCount 7 = .ok (.ireturn, 1) := dk_172 (dk_at dksX1_lineCount_0 7 rfl rfl)
abbrev cX1_tellingCount : ByteArray := prog_1_method_31_code
def yX1_tellingCount : MethodName := ⟨RX1, "tellingCount", "()I"⟩
def dkwX1_tellingCount_0 : List UInt8 := [42, 180, 0, 37, 182, 0, 152, 172]
abbrev dktX1_tellingCount_0 : List UInt8 := dkwX1_tellingCount_0 ++ []
theorem dksX1_tellingCount_0 : cX1_tellingCount.data.toList.drop 0 = dktX1_tellingCount_0 := by decide +kernel
theorem dX1_tellingCount_0 : decode cX1_tellingCount 0 = .ok (.aload_n 0, 1) := dk_42 (dk_at dksX1_tellingCount_0 0 rfl rfl)
theorem dX1_tellingCount_1 : decode cX1_tellingCount 1 = .ok (.getfield 37, 3) := dk_180 0 37 (dk_at dksX1_tellingCount_0 1 rfl rfl)
theorem dX1_tellingCount_4 : decode cX1_tellingCount 4 = .ok (.invokevirtual 152, 3) := dk_182 0 152 (dk_at dksX1_tellingCount_0 4 rfl rfl)
theorem dX1_tellingCount_7 : decode cX1_tellingCount 7 = .ok (.ireturn, 1) := dk_172 (dk_at dksX1_tellingCount_0 7 rfl rfl)
abbrev cX1_clearCells : ByteArray := prog_1_method_39_code
def yX1_clearCells : MethodName := ⟨RX1, "clearCells", "()I"⟩
def dkwX1_clearCells_0 : List UInt8 := [42, 4, 182, 0, 115, 42, 180, 0, 42, 182, 0, 122, 172]
abbrev dktX1_clearCells_0 : List UInt8 := dkwX1_clearCells_0 ++ []
theorem dksX1_clearCells_0 : cX1_clearCells.data.toList.drop 0 = dktX1_clearCells_0 := by decide +kernel
theorem dX1_clearCells_0 : decode cX1_clearCells 0 = .ok (.aload_n 0, 1) := dk_42 (dk_at dksX1_clearCells_0 0 rfl rfl)
theorem dX1_clearCells_1 : decode cX1_clearCells 1 = .ok (.iconst 1, 1) := dk_4 (dk_at dksX1_clearCells_0 1 rfl rfl)
theorem dX1_clearCells_2 : decode cX1_clearCells 2 = .ok (.invokevirtual 115, 3) := dk_182 0 115 (dk_at dksX1_clearCells_0 2 rfl rfl)
theorem dX1_clearCells_5 : decode cX1_clearCells 5 = .ok (.aload_n 0, 1) := dk_42 (dk_at dksX1_clearCells_0 5 rfl rfl)
theorem dX1_clearCells_6 : decode cX1_clearCells 6 = .ok (.getfield 42, 3) := dk_180 0 42 (dk_at dksX1_clearCells_0 6 rfl rfl)
theorem dX1_clearCells_9 : decode cX1_clearCells 9 = .ok (.invokevirtual 122, 3) := dk_182 0 122 (dk_at dksX1_clearCells_0 9 rfl rfl)
theorem dX1_clearCells_12 : decode cX1_clearCells 12 = .ok (.ireturn, 1) := dk_172 (dk_at dksX1_clearCells_0 12 rfl rfl)
abbrev cX1_settled : ByteArray := prog_1_method_42_code
def yX1_settled : MethodName := ⟨RX1, "settled", "()J"⟩
def dkwX1_settled_1 : List UInt8 := [153, 0, 9, 10, 29, 121, 167, 0, 4, 9, 129, 64, 132, 3, 1, 167, 255, 221, 31, 173]
abbrev dktX1_settled_1 : List UInt8 := dkwX1_settled_1 ++ []
def dkwX1_settled_0 : List UInt8 := [9, 64, 3, 62, 29, 42, 180, 0, 37, 182, 0, 98, 162, 0, 30, 31, 42, 180, 0, 42, 29, 182, 0, 239]
abbrev dktX1_settled_0 : List UInt8 := dkwX1_settled_0 ++ dktX1_settled_1
theorem dksX1_settled_0 : cX1_settled.data.toList.drop 0 = dktX1_settled_0 := by decide +kernel
theorem dksX1_settled_1 : cX1_settled.data.toList.drop 24 = dktX1_settled_1 := dk_seg dksX1_settled_0 24 rfl rfl
theorem dX1_settled_0 : decode cX1_settled 0 = .ok (.lconst 0, 1) := dk_9 (dk_at dksX1_settled_0 0 rfl rfl)
theorem dX1_settled_1 : decode cX1_settled 1 = .ok (.lstore_n 1, 1) := dk_64 (dk_at dksX1_settled_0 1 rfl rfl)
theorem dX1_settled_2 : decode cX1_settled 2 = .ok (.iconst 0, 1) := dk_3 (dk_at dksX1_settled_0 2 rfl rfl)
theorem dX1_settled_3 : decode cX1_settled 3 = .ok (.istore_n 3, 1) := dk_62 (dk_at dksX1_settled_0 3 rfl rfl)
theorem dX1_settled_4 : decode cX1_settled 4 = .ok (.iload_n 3, 1) := dk_29 (dk_at dksX1_settled_0 4 rfl rfl)
theorem dX1_settled_5 : decode cX1_settled 5 = .ok (.aload_n 0, 1) := dk_42 (dk_at dksX1_settled_0 5 rfl rfl)
theorem dX1_settled_6 : decode cX1_settled 6 = .ok (.getfield 37, 3) := dk_180 0 37 (dk_at dksX1_settled_0 6 rfl rfl)
theorem dX1_settled_9 : decode cX1_settled 9 = .ok (.invokevirtual 98, 3) := dk_182 0 98 (dk_at dksX1_settled_0 9 rfl rfl)
theorem dX1_settled_12 : decode cX1_settled 12 = .ok (.if_icmp .ge 30, 3) := dk_162 0 30 (dk_at dksX1_settled_0 12 rfl rfl)
theorem dX1_settled_15 : decode cX1_settled 15 = .ok (.lload_n 1, 1) := dk_31 (dk_at dksX1_settled_0 15 rfl rfl)
theorem dX1_settled_16 : decode cX1_settled 16 = .ok (.aload_n 0, 1) := dk_42 (dk_at dksX1_settled_0 16 rfl rfl)
theorem dX1_settled_17 : decode cX1_settled 17 = .ok (.getfield 42, 3) := dk_180 0 42 (dk_at dksX1_settled_0 17 rfl rfl)
theorem dX1_settled_20 : decode cX1_settled 20 = .ok (.iload_n 3, 1) := dk_29 (dk_at dksX1_settled_0 20 rfl rfl)
theorem dX1_settled_21 : decode cX1_settled 21 = .ok (.invokevirtual 239, 3) := dk_182 0 239 (dk_at dksX1_settled_0 21 rfl rfl)
theorem dX1_settled_24 : decode cX1_settled 24 = .ok (.ifCond .eq 9, 3) := dk_153 0 9 (dk_at dksX1_settled_1 0 rfl rfl)
theorem dX1_settled_27 : decode cX1_settled 27 = .ok (.lconst 1, 1) := dk_10 (dk_at dksX1_settled_1 3 rfl rfl)
theorem dX1_settled_28 : decode cX1_settled 28 = .ok (.iload_n 3, 1) := dk_29 (dk_at dksX1_settled_1 4 rfl rfl)
theorem dX1_settled_29 : decode cX1_settled 29 = .ok (.lshl, 1) := dk_121 (dk_at dksX1_settled_1 5 rfl rfl)
theorem dX1_settled_30 : decode cX1_settled 30 = .ok (.goto 4, 3) := dk_167 0 4 (dk_at dksX1_settled_1 6 rfl rfl)
theorem dX1_settled_33 : decode cX1_settled 33 = .ok (.lconst 0, 1) := dk_9 (dk_at dksX1_settled_1 9 rfl rfl)
theorem dX1_settled_34 : decode cX1_settled 34 = .ok (.lor, 1) := dk_129 (dk_at dksX1_settled_1 10 rfl rfl)
theorem dX1_settled_35 : decode cX1_settled 35 = .ok (.lstore_n 1, 1) := dk_64 (dk_at dksX1_settled_1 11 rfl rfl)
theorem dX1_settled_36 : decode cX1_settled 36 = .ok (.iinc 3 1, 3) := dk_132 3 1 (dk_at dksX1_settled_1 12 rfl rfl)
theorem dX1_settled_39 : decode cX1_settled 39 = .ok (.goto (-35), 3) := dk_167 255 221 (dk_at dksX1_settled_1 15 rfl rfl)
theorem dX1_settled_42 : decode cX1_settled 42 = .ok (.lload_n 1, 1) := dk_31 (dk_at dksX1_settled_1 18 rfl rfl)
theorem dX1_settled_43 : decode cX1_settled 43 = .ok (.lreturn, 1) := dk_173 (dk_at dksX1_settled_1 19 rfl rfl)
abbrev cX1_isBroken : ByteArray := prog_1_method_43_code
def yX1_isBroken : MethodName := ⟨RX1, "isBroken", "()Z"⟩
def dkwX1_isBroken_0 : List UInt8 := [42, 180, 0, 42, 182, 0, 242, 172]
abbrev dktX1_isBroken_0 : List UInt8 := dkwX1_isBroken_0 ++ []
theorem dksX1_isBroken_0 : cX1_isBroken.data.toList.drop 0 = dktX1_isBroken_0 := by decide +kernel
theorem dX1_isBroken_0 : decode cX1_isBroken 0 = .ok (.aload_n 0, 1) := dk_42 (dk_at dksX1_isBroken_0 0 rfl rfl)
theorem dX1_isBroken_1 : decode cX1_isBroken 1 = .ok (.getfield 42, 3) := dk_180 0 42 (dk_at dksX1_isBroken_0 1 rfl rfl)
theorem dX1_isBroken_4 : decode cX1_isBroken 4 = .ok (.invokevirtual 242, 3) := dk_182 0 242 (dk_at dksX1_isBroken_0 4 rfl rfl)
theorem dX1_isBroken_7 : decode cX1_isBroken 7 = .ok (.ireturn, 1) := dk_172 (dk_at dksX1_isBroken_0 7 rfl rfl)
abbrev cX1_isSolved : ByteArray := prog_1_method_44_code
def yX1_isSolved : MethodName := ⟨RX1, "isSolved", "()Z"⟩
def dkwX1_isSolved_0 : List UInt8 := [42, 180, 0, 42, 182, 0, 246, 172]
abbrev dktX1_isSolved_0 : List UInt8 := dkwX1_isSolved_0 ++ []
theorem dksX1_isSolved_0 : cX1_isSolved.data.toList.drop 0 = dktX1_isSolved_0 := by decide +kernel
theorem dX1_isSolved_0 : decode cX1_isSolved 0 = .ok (.aload_n 0, 1) := dk_42 (dk_at dksX1_isSolved_0 0 rfl rfl)
theorem dX1_isSolved_1 : decode cX1_isSolved 1 = .ok (.getfield 42, 3) := dk_180 0 42 (dk_at dksX1_isSolved_0 1 rfl rfl)
theorem dX1_isSolved_4 : decode cX1_isSolved 4 = .ok (.invokevirtual 246, 3) := dk_182 0 246 (dk_at dksX1_isSolved_0 4 rfl rfl)
theorem dX1_isSolved_7 : decode cX1_isSolved 7 = .ok (.ireturn, 1) := dk_172 (dk_at dksX1_isSolved_0 7 rfl rfl)
abbrev cX1_brokenLines : ByteArray := prog_1_method_48_code
def yX1_brokenLines : MethodName := ⟨RX1, "brokenLines", "()I"⟩
def dkwX1_brokenLines_0 : List UInt8 := [42, 180, 0, 42, 182, 1, 3, 172]
abbrev dktX1_brokenLines_0 : List UInt8 := dkwX1_brokenLines_0 ++ []
theorem dksX1_brokenLines_0 : cX1_brokenLines.data.toList.drop 0 = dktX1_brokenLines_0 := by decide +kernel
theorem dX1_brokenLines_0 : decode cX1_brokenLines 0 = .ok (.aload_n 0, 1) := dk_42 (dk_at dksX1_brokenLines_0 0 rfl rfl)
theorem dX1_brokenLines_1 : decode cX1_brokenLines 1 = .ok (.getfield 42, 3) := dk_180 0 42 (dk_at dksX1_brokenLines_0 1 rfl rfl)
theorem dX1_brokenLines_4 : decode cX1_brokenLines 4 = .ok (.invokevirtual 259, 3) := dk_182 1 3 (dk_at dksX1_brokenLines_0 4 rfl rfl)
theorem dX1_brokenLines_7 : decode cX1_brokenLines 7 = .ok (.ireturn, 1) := dk_172 (dk_at dksX1_brokenLines_0 7 rfl rfl)
abbrev cX1_nextStep : ByteArray := prog_1_method_51_code
def yX1_nextStep : MethodName := ⟨RX1, "nextStep", "()I"⟩
def dkwX1_nextStep_0 : List UInt8 := [42, 180, 0, 42, 16, 6, 42, 180, 0, 48, 182, 1, 10, 172]
abbrev dktX1_nextStep_0 : List UInt8 := dkwX1_nextStep_0 ++ []
theorem dksX1_nextStep_0 : cX1_nextStep.data.toList.drop 0 = dktX1_nextStep_0 := by decide +kernel
theorem dX1_nextStep_0 : decode cX1_nextStep 0 = .ok (.aload_n 0, 1) := dk_42 (dk_at dksX1_nextStep_0 0 rfl rfl)
theorem dX1_nextStep_1 : decode cX1_nextStep 1 = .ok (.getfield 42, 3) := dk_180 0 42 (dk_at dksX1_nextStep_0 1 rfl rfl)
theorem dX1_nextStep_4 : decode cX1_nextStep 4 = .ok (.bipush 6, 2) := dk_16 6 (dk_at dksX1_nextStep_0 4 rfl rfl)
theorem dX1_nextStep_6 : decode cX1_nextStep 6 = .ok (.aload_n 0, 1) := dk_42 (dk_at dksX1_nextStep_0 6 rfl rfl)
theorem dX1_nextStep_7 : decode cX1_nextStep 7 = .ok (.getfield 48, 3) := dk_180 0 48 (dk_at dksX1_nextStep_0 7 rfl rfl)
theorem dX1_nextStep_10 : decode cX1_nextStep 10 = .ok (.invokevirtual 266, 3) := dk_182 1 10 (dk_at dksX1_nextStep_0 10 rfl rfl)
theorem dX1_nextStep_13 : decode cX1_nextStep 13 = .ok (.ireturn, 1) := dk_172 (dk_at dksX1_nextStep_0 13 rfl rfl)
abbrev cX1_hardness : ByteArray := prog_1_method_55_code
def yX1_hardness : MethodName := ⟨RX1, "hardness", "()I"⟩
def dkwX1_hardness_2 : List UInt8 := [182, 0, 246, 153, 0, 5, 27, 172, 132, 1, 1, 167, 255, 211, 16, 7, 172]
abbrev dktX1_hardness_2 : List UInt8 := dkwX1_hardness_2 ++ []
def dkwX1_hardness_1 : List UInt8 := [42, 180, 0, 42, 182, 0, 205, 42, 180, 0, 51, 27, 42, 180, 0, 48, 182, 1, 20, 61, 42, 180, 0, 51]
abbrev dktX1_hardness_1 : List UInt8 := dkwX1_hardness_1 ++ dktX1_hardness_2
def dkwX1_hardness_0 : List UInt8 := [42, 180, 0, 42, 182, 0, 246, 153, 0, 5, 3, 172, 4, 60, 27, 16, 6, 163, 0, 45, 42, 180, 0, 51]
abbrev dktX1_hardness_0 : List UInt8 := dkwX1_hardness_0 ++ dktX1_hardness_1
theorem dksX1_hardness_0 : cX1_hardness.data.toList.drop 0 = dktX1_hardness_0 := by decide +kernel
theorem dksX1_hardness_1 : cX1_hardness.data.toList.drop 24 = dktX1_hardness_1 := dk_seg dksX1_hardness_0 24 rfl rfl
theorem dksX1_hardness_2 : cX1_hardness.data.toList.drop 48 = dktX1_hardness_2 := dk_seg dksX1_hardness_1 24 rfl rfl
theorem dX1_hardness_0 : decode cX1_hardness 0 = .ok (.aload_n 0, 1) := dk_42 (dk_at dksX1_hardness_0 0 rfl rfl)
theorem dX1_hardness_1 : decode cX1_hardness 1 = .ok (.getfield 42, 3) := dk_180 0 42 (dk_at dksX1_hardness_0 1 rfl rfl)
theorem dX1_hardness_4 : decode cX1_hardness 4 = .ok (.invokevirtual 246, 3) := dk_182 0 246 (dk_at dksX1_hardness_0 4 rfl rfl)
theorem dX1_hardness_7 : decode cX1_hardness 7 = .ok (.ifCond .eq 5, 3) := dk_153 0 5 (dk_at dksX1_hardness_0 7 rfl rfl)
theorem dX1_hardness_10 : decode cX1_hardness 10 = .ok (.iconst 0, 1) := dk_3 (dk_at dksX1_hardness_0 10 rfl rfl)
theorem dX1_hardness_11 : decode cX1_hardness 11 = .ok (.ireturn, 1) := dk_172 (dk_at dksX1_hardness_0 11 rfl rfl)
theorem dX1_hardness_12 : decode cX1_hardness 12 = .ok (.iconst 1, 1) := dk_4 (dk_at dksX1_hardness_0 12 rfl rfl)
theorem dX1_hardness_13 : decode cX1_hardness 13 = .ok (.istore_n 1, 1) := dk_60 (dk_at dksX1_hardness_0 13 rfl rfl)
theorem dX1_hardness_14 : decode cX1_hardness 14 = .ok (.iload_n 1, 1) := dk_27 (dk_at dksX1_hardness_0 14 rfl rfl)
theorem dX1_hardness_15 : decode cX1_hardness 15 = .ok (.bipush 6, 2) := dk_16 6 (dk_at dksX1_hardness_0 15 rfl rfl)
theorem dX1_hardness_17 : decode cX1_hardness 17 = .ok (.if_icmp .gt 45, 3) := dk_163 0 45 (dk_at dksX1_hardness_0 17 rfl rfl)
theorem dX1_hardness_20 : decode cX1_hardness 20 = .ok (.aload_n 0, 1) := dk_42 (dk_at dksX1_hardness_0 20 rfl rfl)
theorem dX1_hardness_21 : decode cX1_hardness 21 = .ok (.getfield 51, 3) := dk_180 0 51 (dk_at dksX1_hardness_0 21 rfl rfl)
theorem dX1_hardness_24 : decode cX1_hardness 24 = .ok (.aload_n 0, 1) := dk_42 (dk_at dksX1_hardness_1 0 rfl rfl)
theorem dX1_hardness_25 : decode cX1_hardness 25 = .ok (.getfield 42, 3) := dk_180 0 42 (dk_at dksX1_hardness_1 1 rfl rfl)
theorem dX1_hardness_28 : decode cX1_hardness 28 = .ok (.invokevirtual 205, 3) := dk_182 0 205 (dk_at dksX1_hardness_1 4 rfl rfl)
theorem dX1_hardness_31 : decode cX1_hardness 31 = .ok (.aload_n 0, 1) := dk_42 (dk_at dksX1_hardness_1 7 rfl rfl)
theorem dX1_hardness_32 : decode cX1_hardness 32 = .ok (.getfield 51, 3) := dk_180 0 51 (dk_at dksX1_hardness_1 8 rfl rfl)
theorem dX1_hardness_35 : decode cX1_hardness 35 = .ok (.iload_n 1, 1) := dk_27 (dk_at dksX1_hardness_1 11 rfl rfl)
theorem dX1_hardness_36 : decode cX1_hardness 36 = .ok (.aload_n 0, 1) := dk_42 (dk_at dksX1_hardness_1 12 rfl rfl)
theorem dX1_hardness_37 : decode cX1_hardness 37 = .ok (.getfield 48, 3) := dk_180 0 48 (dk_at dksX1_hardness_1 13 rfl rfl)
theorem dX1_hardness_40 : decode cX1_hardness 40 = .ok (.invokevirtual 276, 3) := dk_182 1 20 (dk_at dksX1_hardness_1 16 rfl rfl)
theorem dX1_hardness_43 : decode cX1_hardness 43 = .ok (.istore_n 2, 1) := dk_61 (dk_at dksX1_hardness_1 19 rfl rfl)
theorem dX1_hardness_44 : decode cX1_hardness 44 = .ok (.aload_n 0, 1) := dk_42 (dk_at dksX1_hardness_1 20 rfl rfl)
theorem dX1_hardness_45 : decode cX1_hardness 45 = .ok (.getfield 51, 3) := dk_180 0 51 (dk_at dksX1_hardness_1 21 rfl rfl)
theorem dX1_hardness_48 : decode cX1_hardness 48 = .ok (.invokevirtual 246, 3) := dk_182 0 246 (dk_at dksX1_hardness_2 0 rfl rfl)
theorem dX1_hardness_51 : decode cX1_hardness 51 = .ok (.ifCond .eq 5, 3) := dk_153 0 5 (dk_at dksX1_hardness_2 3 rfl rfl)
theorem dX1_hardness_54 : decode cX1_hardness 54 = .ok (.iload_n 1, 1) := dk_27 (dk_at dksX1_hardness_2 6 rfl rfl)
theorem dX1_hardness_55 : decode cX1_hardness 55 = .ok (.ireturn, 1) := dk_172 (dk_at dksX1_hardness_2 7 rfl rfl)
theorem dX1_hardness_56 : decode cX1_hardness 56 = .ok (.iinc 1 1, 3) := dk_132 1 1 (dk_at dksX1_hardness_2 8 rfl rfl)
theorem dX1_hardness_59 : decode cX1_hardness 59 = .ok (.goto (-45), 3) := dk_167 255 211 (dk_at dksX1_hardness_2 11 rfl rfl)
theorem dX1_hardness_62 : decode cX1_hardness 62 = .ok (.bipush 7, 2) := dk_16 7 (dk_at dksX1_hardness_2 14 rfl rfl)
theorem dX1_hardness_64 : decode cX1_hardness 64 = .ok (.ireturn, 1) := dk_172 (dk_at dksX1_hardness_2 16 rfl rfl)
abbrev cX1_solutionCount : ByteArray := prog_1_method_57_code
def yX1_solutionCount : MethodName := ⟨RX1, "solutionCount", "()I"⟩
def dkwX1_solutionCount_0 : List UInt8 := [42, 17, 0, 200, 3, 182, 1, 27, 180, 1, 30, 172]
abbrev dktX1_solutionCount_0 : List UInt8 := dkwX1_solutionCount_0 ++ []
theorem dksX1_solutionCount_0 : cX1_solutionCount.data.toList.drop 0 = dktX1_solutionCount_0 := by decide +kernel
theorem dX1_solutionCount_0 : decode cX1_solutionCount 0 = .ok (.aload_n 0, 1) := dk_42 (dk_at dksX1_solutionCount_0 0 rfl rfl)
theorem dX1_solutionCount_1 : decode cX1_solutionCount 1 = .ok (.sipush 200, 3) := dk_17 0 200 (dk_at dksX1_solutionCount_0 1 rfl rfl)
theorem dX1_solutionCount_4 : decode cX1_solutionCount 4 = .ok (.iconst 0, 1) := dk_3 (dk_at dksX1_solutionCount_0 4 rfl rfl)
theorem dX1_solutionCount_5 : decode cX1_solutionCount 5 = .ok (.invokevirtual 283, 3) := dk_182 1 27 (dk_at dksX1_solutionCount_0 5 rfl rfl)
theorem dX1_solutionCount_8 : decode cX1_solutionCount 8 = .ok (.getfield 286, 3) := dk_180 1 30 (dk_at dksX1_solutionCount_0 8 rfl rfl)
theorem dX1_solutionCount_11 : decode cX1_solutionCount 11 = .ok (.ireturn, 1) := dk_172 (dk_at dksX1_solutionCount_0 11 rfl rfl)
abbrev cX1_found : ByteArray := prog_1_method_56_code
def yX1_found : MethodName := ⟨RX1, "found", "(IZ)LEdgeLetters$Found;"⟩
def dkwX1_found_0 : List UInt8 := [42, 180, 0, 51, 42, 180, 0, 42, 182, 0, 205, 42, 180, 0, 51, 27, 28, 182, 1, 23, 176]
abbrev dktX1_found_0 : List UInt8 := dkwX1_found_0 ++ []
theorem dksX1_found_0 : cX1_found.data.toList.drop 0 = dktX1_found_0 := by decide +kernel
theorem dX1_found_0 : decode cX1_found 0 = .ok (.aload_n 0, 1) := dk_42 (dk_at dksX1_found_0 0 rfl rfl)
theorem dX1_found_1 : decode cX1_found 1 = .ok (.getfield 51, 3) := dk_180 0 51 (dk_at dksX1_found_0 1 rfl rfl)
theorem dX1_found_4 : decode cX1_found 4 = .ok (.aload_n 0, 1) := dk_42 (dk_at dksX1_found_0 4 rfl rfl)
theorem dX1_found_5 : decode cX1_found 5 = .ok (.getfield 42, 3) := dk_180 0 42 (dk_at dksX1_found_0 5 rfl rfl)
theorem dX1_found_8 : decode cX1_found 8 = .ok (.invokevirtual 205, 3) := dk_182 0 205 (dk_at dksX1_found_0 8 rfl rfl)
theorem dX1_found_11 : decode cX1_found 11 = .ok (.aload_n 0, 1) := dk_42 (dk_at dksX1_found_0 11 rfl rfl)
theorem dX1_found_12 : decode cX1_found 12 = .ok (.getfield 51, 3) := dk_180 0 51 (dk_at dksX1_found_0 12 rfl rfl)
theorem dX1_found_15 : decode cX1_found 15 = .ok (.iload_n 1, 1) := dk_27 (dk_at dksX1_found_0 15 rfl rfl)
theorem dX1_found_16 : decode cX1_found 16 = .ok (.iload_n 2, 1) := dk_28 (dk_at dksX1_found_0 16 rfl rfl)
theorem dX1_found_17 : decode cX1_found 17 = .ok (.invokevirtual 279, 3) := dk_182 1 23 (dk_at dksX1_found_0 17 rfl rfl)
theorem dX1_found_20 : decode cX1_found 20 = .ok (.areturn, 1) := dk_176 (dk_at dksX1_found_0 20 rfl rfl)
abbrev cX1_solutionCountByRows : ByteArray := prog_1_method_58_code
def yX1_solutionCountByRows : MethodName := ⟨RX1, "solutionCountByRows", "()I"⟩
def dkwX1_solutionCountByRows_1 : List UInt8 := [167, 0, 14, 42, 180, 0, 51, 3, 17, 0, 200, 182, 1, 35, 172]
abbrev dktX1_solutionCountByRows_1 : List UInt8 := dkwX1_solutionCountByRows_1 ++ []
def dkwX1_solutionCountByRows_0 : List UInt8 := [42, 180, 0, 51, 42, 180, 0, 42, 182, 0, 205, 42, 180, 0, 51, 182, 0, 242, 153, 0, 7, 3]
abbrev dktX1_solutionCountByRows_0 : List UInt8 := dkwX1_solutionCountByRows_0 ++ dktX1_solutionCountByRows_1
theorem dksX1_solutionCountByRows_0 : cX1_solutionCountByRows.data.toList.drop 0 = dktX1_solutionCountByRows_0 := by decide +kernel
theorem dksX1_solutionCountByRows_1 : cX1_solutionCountByRows.data.toList.drop 22 = dktX1_solutionCountByRows_1 := dk_seg dksX1_solutionCountByRows_0 22 rfl rfl
theorem dX1_solutionCountByRows_0 : decode cX1_solutionCountByRows 0 = .ok (.aload_n 0, 1) := dk_42 (dk_at dksX1_solutionCountByRows_0 0 rfl rfl)
theorem dX1_solutionCountByRows_1 : decode cX1_solutionCountByRows 1 = .ok (.getfield 51, 3) := dk_180 0 51 (dk_at dksX1_solutionCountByRows_0 1 rfl rfl)
theorem dX1_solutionCountByRows_4 : decode cX1_solutionCountByRows 4 = .ok (.aload_n 0, 1) := dk_42 (dk_at dksX1_solutionCountByRows_0 4 rfl rfl)
theorem dX1_solutionCountByRows_5 : decode cX1_solutionCountByRows 5 = .ok (.getfield 42, 3) := dk_180 0 42 (dk_at dksX1_solutionCountByRows_0 5 rfl rfl)
theorem dX1_solutionCountByRows_8 : decode cX1_solutionCountByRows 8 = .ok (.invokevirtual 205, 3) := dk_182 0 205 (dk_at dksX1_solutionCountByRows_0 8 rfl rfl)
theorem dX1_solutionCountByRows_11 : decode cX1_solutionCountByRows 11 = .ok (.aload_n 0, 1) := dk_42 (dk_at dksX1_solutionCountByRows_0 11 rfl rfl)
theorem dX1_solutionCountByRows_12 : decode cX1_solutionCountByRows 12 = .ok (.getfield 51, 3) := dk_180 0 51 (dk_at dksX1_solutionCountByRows_0 12 rfl rfl)
theorem dX1_solutionCountByRows_15 : decode cX1_solutionCountByRows 15 = .ok (.invokevirtual 242, 3) := dk_182 0 242 (dk_at dksX1_solutionCountByRows_0 15 rfl rfl)
theorem dX1_solutionCountByRows_18 : decode cX1_solutionCountByRows 18 = .ok (.ifCond .eq 7, 3) := dk_153 0 7 (dk_at dksX1_solutionCountByRows_0 18 rfl rfl)
theorem dX1_solutionCountByRows_21 : decode cX1_solutionCountByRows 21 = .ok (.iconst 0, 1) := dk_3 (dk_at dksX1_solutionCountByRows_0 21 rfl rfl)
theorem dX1_solutionCountByRows_22 : decode cX1_solutionCountByRows 22 = .ok (.goto 14, 3) := dk_167 0 14 (dk_at dksX1_solutionCountByRows_1 0 rfl rfl)
theorem dX1_solutionCountByRows_25 : decode cX1_solutionCountByRows 25 = .ok (.aload_n 0, 1) := dk_42 (dk_at dksX1_solutionCountByRows_1 3 rfl rfl)
theorem dX1_solutionCountByRows_26 : decode cX1_solutionCountByRows 26 = .ok (.getfield 51, 3) := dk_180 0 51 (dk_at dksX1_solutionCountByRows_1 4 rfl rfl)
theorem dX1_solutionCountByRows_29 : decode cX1_solutionCountByRows 29 = .ok (.iconst 0, 1) := dk_3 (dk_at dksX1_solutionCountByRows_1 7 rfl rfl)
theorem dX1_solutionCountByRows_30 : decode cX1_solutionCountByRows 30 = .ok (.sipush 200, 3) := dk_17 0 200 (dk_at dksX1_solutionCountByRows_1 8 rfl rfl)
theorem dX1_solutionCountByRows_33 : decode cX1_solutionCountByRows 33 = .ok (.invokevirtual 291, 3) := dk_182 1 35 (dk_at dksX1_solutionCountByRows_1 11 rfl rfl)
theorem dX1_solutionCountByRows_36 : decode cX1_solutionCountByRows 36 = .ok (.ireturn, 1) := dk_172 (dk_at dksX1_solutionCountByRows_1 14 rfl rfl)
abbrev cX1_sameInAll : ByteArray := prog_1_method_60_code
def yX1_sameInAll : MethodName := ⟨RX1, "sameInAll", "()J"⟩
def dkwX1_sameInAll_2 : List UInt8 := [28, 126, 133, 173]
abbrev dktX1_sameInAll_2 : List UInt8 := dkwX1_sameInAll_2 ++ []
def dkwX1_sameInAll_1 : List UInt8 := [180, 1, 30, 153, 0, 13, 43, 180, 1, 30, 17, 0, 200, 160, 0, 7, 9, 167, 0, 10, 43, 180, 1, 41]
abbrev dktX1_sameInAll_1 : List UInt8 := dkwX1_sameInAll_1 ++ dktX1_sameInAll_2
def dkwX1_sameInAll_0 : List UInt8 := [42, 17, 0, 200, 3, 182, 1, 27, 76, 4, 42, 180, 0, 37, 182, 0, 98, 120, 4, 100, 61, 43]
abbrev dktX1_sameInAll_0 : List UInt8 := dkwX1_sameInAll_0 ++ dktX1_sameInAll_1
theorem dksX1_sameInAll_0 : cX1_sameInAll.data.toList.drop 0 = dktX1_sameInAll_0 := by decide +kernel
theorem dksX1_sameInAll_1 : cX1_sameInAll.data.toList.drop 22 = dktX1_sameInAll_1 := dk_seg dksX1_sameInAll_0 22 rfl rfl
theorem dksX1_sameInAll_2 : cX1_sameInAll.data.toList.drop 46 = dktX1_sameInAll_2 := dk_seg dksX1_sameInAll_1 24 rfl rfl
theorem dX1_sameInAll_0 : decode cX1_sameInAll 0 = .ok (.aload_n 0, 1) := dk_42 (dk_at dksX1_sameInAll_0 0 rfl rfl)
theorem dX1_sameInAll_1 : decode cX1_sameInAll 1 = .ok (.sipush 200, 3) := dk_17 0 200 (dk_at dksX1_sameInAll_0 1 rfl rfl)
theorem dX1_sameInAll_4 : decode cX1_sameInAll 4 = .ok (.iconst 0, 1) := dk_3 (dk_at dksX1_sameInAll_0 4 rfl rfl)
theorem dX1_sameInAll_5 : decode cX1_sameInAll 5 = .ok (.invokevirtual 283, 3) := dk_182 1 27 (dk_at dksX1_sameInAll_0 5 rfl rfl)
theorem dX1_sameInAll_8 : decode cX1_sameInAll 8 = .ok (.astore_n 1, 1) := dk_76 (dk_at dksX1_sameInAll_0 8 rfl rfl)
theorem dX1_sameInAll_9 : decode cX1_sameInAll 9 = .ok (.iconst 1, 1) := dk_4 (dk_at dksX1_sameInAll_0 9 rfl rfl)
theorem dX1_sameInAll_10 : decode cX1_sameInAll 10 = .ok (.aload_n 0, 1) := dk_42 (dk_at dksX1_sameInAll_0 10 rfl rfl)
theorem dX1_sameInAll_11 : decode cX1_sameInAll 11 = .ok (.getfield 37, 3) := dk_180 0 37 (dk_at dksX1_sameInAll_0 11 rfl rfl)
theorem dX1_sameInAll_14 : decode cX1_sameInAll 14 = .ok (.invokevirtual 98, 3) := dk_182 0 98 (dk_at dksX1_sameInAll_0 14 rfl rfl)
theorem dX1_sameInAll_17 : decode cX1_sameInAll 17 = .ok (.ishl, 1) := dk_120 (dk_at dksX1_sameInAll_0 17 rfl rfl)
theorem dX1_sameInAll_18 : decode cX1_sameInAll 18 = .ok (.iconst 1, 1) := dk_4 (dk_at dksX1_sameInAll_0 18 rfl rfl)
theorem dX1_sameInAll_19 : decode cX1_sameInAll 19 = .ok (.isub, 1) := dk_100 (dk_at dksX1_sameInAll_0 19 rfl rfl)
theorem dX1_sameInAll_20 : decode cX1_sameInAll 20 = .ok (.istore_n 2, 1) := dk_61 (dk_at dksX1_sameInAll_0 20 rfl rfl)
theorem dX1_sameInAll_21 : decode cX1_sameInAll 21 = .ok (.aload_n 1, 1) := dk_43 (dk_at dksX1_sameInAll_0 21 rfl rfl)
theorem dX1_sameInAll_22 : decode cX1_sameInAll 22 = .ok (.getfield 286, 3) := dk_180 1 30 (dk_at dksX1_sameInAll_1 0 rfl rfl)
theorem dX1_sameInAll_25 : decode cX1_sameInAll 25 = .ok (.ifCond .eq 13, 3) := dk_153 0 13 (dk_at dksX1_sameInAll_1 3 rfl rfl)
theorem dX1_sameInAll_28 : decode cX1_sameInAll 28 = .ok (.aload_n 1, 1) := dk_43 (dk_at dksX1_sameInAll_1 6 rfl rfl)
theorem dX1_sameInAll_29 : decode cX1_sameInAll 29 = .ok (.getfield 286, 3) := dk_180 1 30 (dk_at dksX1_sameInAll_1 7 rfl rfl)
theorem dX1_sameInAll_32 : decode cX1_sameInAll 32 = .ok (.sipush 200, 3) := dk_17 0 200 (dk_at dksX1_sameInAll_1 10 rfl rfl)
theorem dX1_sameInAll_35 : decode cX1_sameInAll 35 = .ok (.if_icmp .ne 7, 3) := dk_160 0 7 (dk_at dksX1_sameInAll_1 13 rfl rfl)
theorem dX1_sameInAll_38 : decode cX1_sameInAll 38 = .ok (.lconst 0, 1) := dk_9 (dk_at dksX1_sameInAll_1 16 rfl rfl)
theorem dX1_sameInAll_39 : decode cX1_sameInAll 39 = .ok (.goto 10, 3) := dk_167 0 10 (dk_at dksX1_sameInAll_1 17 rfl rfl)
theorem dX1_sameInAll_42 : decode cX1_sameInAll 42 = .ok (.aload_n 1, 1) := dk_43 (dk_at dksX1_sameInAll_1 20 rfl rfl)
theorem dX1_sameInAll_43 : decode cX1_sameInAll 43 = .ok (.getfield 297, 3) := dk_180 1 41 (dk_at dksX1_sameInAll_1 21 rfl rfl)
theorem dX1_sameInAll_46 : decode cX1_sameInAll 46 = .ok (.iload_n 2, 1) := dk_28 (dk_at dksX1_sameInAll_2 0 rfl rfl)
theorem dX1_sameInAll_47 : decode cX1_sameInAll 47 = .ok (.iand, 1) := dk_126 (dk_at dksX1_sameInAll_2 1 rfl rfl)
theorem dX1_sameInAll_48 : decode cX1_sameInAll 48 = .ok (.i2l, 1) := dk_133 (dk_at dksX1_sameInAll_2 2 rfl rfl)
theorem dX1_sameInAll_49 : decode cX1_sameInAll 49 = .ok (.lreturn, 1) := dk_173 (dk_at dksX1_sameInAll_2 3 rfl rfl)
abbrev cX1_crossedShare : ByteArray := prog_1_method_62_code
def yX1_crossedShare : MethodName := ⟨RX1, "crossedShare", "()D"⟩
def dkwX1_crossedShare_1 : List UInt8 := [4, 96, 104, 135, 111, 175]
abbrev dktX1_crossedShare_1 : List UInt8 := dkwX1_crossedShare_1 ++ []
def dkwX1_crossedShare_0 : List UInt8 := [42, 180, 0, 42, 182, 1, 47, 135, 72, 39, 42, 180, 0, 37, 182, 0, 98, 42, 180, 0, 37, 180, 0, 112]
abbrev dktX1_crossedShare_0 : List UInt8 := dkwX1_crossedShare_0 ++ dktX1_crossedShare_1
theorem dksX1_crossedShare_0 : cX1_crossedShare.data.toList.drop 0 = dktX1_crossedShare_0 := by decide +kernel
theorem dksX1_crossedShare_1 : cX1_crossedShare.data.toList.drop 24 = dktX1_crossedShare_1 := dk_seg dksX1_crossedShare_0 24 rfl rfl
theorem dX1_crossedShare_0 : decode cX1_crossedShare 0 = .ok (.aload_n 0, 1) := dk_42 (dk_at dksX1_crossedShare_0 0 rfl rfl)
theorem dX1_crossedShare_1 : decode cX1_crossedShare 1 = .ok (.getfield 42, 3) := dk_180 0 42 (dk_at dksX1_crossedShare_0 1 rfl rfl)
theorem dX1_crossedShare_4 : decode cX1_crossedShare 4 = .ok (.invokevirtual 303, 3) := dk_182 1 47 (dk_at dksX1_crossedShare_0 4 rfl rfl)
theorem dX1_crossedShare_7 : decode cX1_crossedShare 7 = .ok (.i2d, 1) := dk_135 (dk_at dksX1_crossedShare_0 7 rfl rfl)
theorem dX1_crossedShare_8 : decode cX1_crossedShare 8 = .ok (.dstore_n 1, 1) := dk_72 (dk_at dksX1_crossedShare_0 8 rfl rfl)
theorem dX1_crossedShare_9 : decode cX1_crossedShare 9 = .ok (.dload_n 1, 1) := dk_39 (dk_at dksX1_crossedShare_0 9 rfl rfl)
theorem dX1_crossedShare_10 : decode cX1_crossedShare 10 = .ok (.aload_n 0, 1) := dk_42 (dk_at dksX1_crossedShare_0 10 rfl rfl)
theorem dX1_crossedShare_11 : decode cX1_crossedShare 11 = .ok (.getfield 37, 3) := dk_180 0 37 (dk_at dksX1_crossedShare_0 11 rfl rfl)
theorem dX1_crossedShare_14 : decode cX1_crossedShare 14 = .ok (.invokevirtual 98, 3) := dk_182 0 98 (dk_at dksX1_crossedShare_0 14 rfl rfl)
theorem dX1_crossedShare_17 : decode cX1_crossedShare 17 = .ok (.aload_n 0, 1) := dk_42 (dk_at dksX1_crossedShare_0 17 rfl rfl)
theorem dX1_crossedShare_18 : decode cX1_crossedShare 18 = .ok (.getfield 37, 3) := dk_180 0 37 (dk_at dksX1_crossedShare_0 18 rfl rfl)
theorem dX1_crossedShare_21 : decode cX1_crossedShare 21 = .ok (.getfield 112, 3) := dk_180 0 112 (dk_at dksX1_crossedShare_0 21 rfl rfl)
theorem dX1_crossedShare_24 : decode cX1_crossedShare 24 = .ok (.iconst 1, 1) := dk_4 (dk_at dksX1_crossedShare_1 0 rfl rfl)
theorem dX1_crossedShare_25 : decode cX1_crossedShare 25 = .ok (.iadd, 1) := dk_96 (dk_at dksX1_crossedShare_1 1 rfl rfl)
theorem dX1_crossedShare_26 : decode cX1_crossedShare 26 = .ok (.imul, 1) := dk_104 (dk_at dksX1_crossedShare_1 2 rfl rfl)
theorem dX1_crossedShare_27 : decode cX1_crossedShare 27 = .ok (.i2d, 1) := dk_135 (dk_at dksX1_crossedShare_1 3 rfl rfl)
theorem dX1_crossedShare_28 : decode cX1_crossedShare 28 = .ok (.ddiv, 1) := dk_111 (dk_at dksX1_crossedShare_1 4 rfl rfl)
theorem dX1_crossedShare_29 : decode cX1_crossedShare 29 = .ok (.dreturn, 1) := dk_175 (dk_at dksX1_crossedShare_1 5 rfl rfl)
abbrev cX1_clearText : ByteArray := prog_1_method_64_code
def yX1_clearText : MethodName := ⟨RX1, "clearText", "()I"⟩
def dkwX1_clearText_0 : List UInt8 := [42, 180, 0, 68, 182, 1, 52, 60, 42, 180, 0, 68, 3, 182, 1, 59, 27, 172]
abbrev dktX1_clearText_0 : List UInt8 := dkwX1_clearText_0 ++ []
theorem dksX1_clearText_0 : cX1_clearText.data.toList.drop 0 = dktX1_clearText_0 := by decide +kernel
theorem dX1_clearText_0 : decode cX1_clearText 0 = .ok (.aload_n 0, 1) := dk_42 (dk_at dksX1_clearText_0 0 rfl rfl)
theorem dX1_clearText_1 : decode cX1_clearText 1 = .ok (.getfield 68, 3) := dk_180 0 68 (dk_at dksX1_clearText_0 1 rfl rfl)
theorem dX1_clearText_4 : decode cX1_clearText 4 = .ok (.invokevirtual 308, 3) := dk_182 1 52 (dk_at dksX1_clearText_0 4 rfl rfl)
theorem dX1_clearText_7 : decode cX1_clearText 7 = .ok (.istore_n 1, 1) := dk_60 (dk_at dksX1_clearText_0 7 rfl rfl)
theorem dX1_clearText_8 : decode cX1_clearText 8 = .ok (.aload_n 0, 1) := dk_42 (dk_at dksX1_clearText_0 8 rfl rfl)
theorem dX1_clearText_9 : decode cX1_clearText 9 = .ok (.getfield 68, 3) := dk_180 0 68 (dk_at dksX1_clearText_0 9 rfl rfl)
theorem dX1_clearText_12 : decode cX1_clearText 12 = .ok (.iconst 0, 1) := dk_3 (dk_at dksX1_clearText_0 12 rfl rfl)
theorem dX1_clearText_13 : decode cX1_clearText 13 = .ok (.invokevirtual 315, 3) := dk_182 1 59 (dk_at dksX1_clearText_0 13 rfl rfl)
theorem dX1_clearText_16 : decode cX1_clearText 16 = .ok (.iload_n 1, 1) := dk_27 (dk_at dksX1_clearText_0 16 rfl rfl)
theorem dX1_clearText_17 : decode cX1_clearText 17 = .ok (.ireturn, 1) := dk_172 (dk_at dksX1_clearText_0 17 rfl rfl)
abbrev cX1_textLength : ByteArray := prog_1_method_65_code
def yX1_textLength : MethodName := ⟨RX1, "textLength", "()I"⟩
def dkwX1_textLength_0 : List UInt8 := [42, 180, 0, 68, 182, 1, 52, 172]
abbrev dktX1_textLength_0 : List UInt8 := dkwX1_textLength_0 ++ []
theorem dksX1_textLength_0 : cX1_textLength.data.toList.drop 0 = dktX1_textLength_0 := by decide +kernel
theorem dX1_textLength_0 : decode cX1_textLength 0 = .ok (.aload_n 0, 1) := dk_42 (dk_at dksX1_textLength_0 0 rfl rfl)
theorem dX1_textLength_1 : decode cX1_textLength 1 = .ok (.getfield 68, 3) := dk_180 0 68 (dk_at dksX1_textLength_0 1 rfl rfl)
theorem dX1_textLength_4 : decode cX1_textLength 4 = .ok (.invokevirtual 308, 3) := dk_182 1 52 (dk_at dksX1_textLength_0 4 rfl rfl)
theorem dX1_textLength_7 : decode cX1_textLength 7 = .ok (.ireturn, 1) := dk_172 (dk_at dksX1_textLength_0 7 rfl rfl)
abbrev cX1_textError : ByteArray := prog_1_method_66_code
def yX1_textError : MethodName := ⟨RX1, "textError", "()I"⟩
def dkwX1_textError_1 : List UInt8 := [172]
abbrev dktX1_textError_1 : List UInt8 := dkwX1_textError_1 ++ []
def dkwX1_textError_0 : List UInt8 := [187, 1, 62, 89, 42, 183, 1, 64, 76, 43, 180, 1, 67, 153, 0, 10, 43, 180, 1, 70, 167, 0, 4, 2]
abbrev dktX1_textError_0 : List UInt8 := dkwX1_textError_0 ++ dktX1_textError_1
theorem dksX1_textError_0 : cX1_textError.data.toList.drop 0 = dktX1_textError_0 := by decide +kernel
theorem dksX1_textError_1 : cX1_textError.data.toList.drop 24 = dktX1_textError_1 := dk_seg dksX1_textError_0 24 rfl rfl
theorem dX1_textError_0 : decode cX1_textError 0 = .ok (.new 318, 3) := dk_187 1 62 (dk_at dksX1_textError_0 0 rfl rfl)
theorem dX1_textError_3 : decode cX1_textError 3 = .ok (.dup, 1) := dk_89 (dk_at dksX1_textError_0 3 rfl rfl)
theorem dX1_textError_4 : decode cX1_textError 4 = .ok (.aload_n 0, 1) := dk_42 (dk_at dksX1_textError_0 4 rfl rfl)
theorem dX1_textError_5 : decode cX1_textError 5 = .ok (.invokespecial 320, 3) := dk_183 1 64 (dk_at dksX1_textError_0 5 rfl rfl)
theorem dX1_textError_8 : decode cX1_textError 8 = .ok (.astore_n 1, 1) := dk_76 (dk_at dksX1_textError_0 8 rfl rfl)
theorem dX1_textError_9 : decode cX1_textError 9 = .ok (.aload_n 1, 1) := dk_43 (dk_at dksX1_textError_0 9 rfl rfl)
theorem dX1_textError_10 : decode cX1_textError 10 = .ok (.getfield 323, 3) := dk_180 1 67 (dk_at dksX1_textError_0 10 rfl rfl)
theorem dX1_textError_13 : decode cX1_textError 13 = .ok (.ifCond .eq 10, 3) := dk_153 0 10 (dk_at dksX1_textError_0 13 rfl rfl)
theorem dX1_textError_16 : decode cX1_textError 16 = .ok (.aload_n 1, 1) := dk_43 (dk_at dksX1_textError_0 16 rfl rfl)
theorem dX1_textError_17 : decode cX1_textError 17 = .ok (.getfield 326, 3) := dk_180 1 70 (dk_at dksX1_textError_0 17 rfl rfl)
theorem dX1_textError_20 : decode cX1_textError 20 = .ok (.goto 4, 3) := dk_167 0 4 (dk_at dksX1_textError_0 20 rfl rfl)
theorem dX1_textError_23 : decode cX1_textError 23 = .ok (.iconst (-1), 1) := dk_2 (dk_at dksX1_textError_0 23 rfl rfl)
theorem dX1_textError_24 : decode cX1_textError 24 = .ok (.ireturn, 1) := dk_172 (dk_at dksX1_textError_1 0 rfl rfl)
abbrev cX1_isIn : ByteArray := prog_1_method_1_code
def yX1_isIn : MethodName := ⟨RX1, "isIn", "(III)Z"⟩
def dkwX1_isIn_0 : List UInt8 := [26, 27, 161, 0, 12, 26, 28, 163, 0, 7, 4, 167, 0, 4, 3, 172]
abbrev dktX1_isIn_0 : List UInt8 := dkwX1_isIn_0 ++ []
theorem dksX1_isIn_0 : cX1_isIn.data.toList.drop 0 = dktX1_isIn_0 := by decide +kernel
theorem dX1_isIn_0 : decode cX1_isIn 0 = .ok (.iload_n 0, 1) := dk_26 (dk_at dksX1_isIn_0 0 rfl rfl)
theorem dX1_isIn_1 : decode cX1_isIn 1 = .ok (.iload_n 1, 1) := dk_27 (dk_at dksX1_isIn_0 1 rfl rfl)
theorem dX1_isIn_2 : decode cX1_isIn 2 = .ok (.if_icmp .lt 12, 3) := dk_161 0 12 (dk_at dksX1_isIn_0 2 rfl rfl)
theorem dX1_isIn_5 : decode cX1_isIn 5 = .ok (.iload_n 0, 1) := dk_26 (dk_at dksX1_isIn_0 5 rfl rfl)
theorem dX1_isIn_6 : decode cX1_isIn 6 = .ok (.iload_n 2, 1) := dk_28 (dk_at dksX1_isIn_0 6 rfl rfl)
theorem dX1_isIn_7 : decode cX1_isIn 7 = .ok (.if_icmp .gt 7, 3) := dk_163 0 7 (dk_at dksX1_isIn_0 7 rfl rfl)
theorem dX1_isIn_10 : decode cX1_isIn 10 = .ok (.iconst 1, 1) := dk_4 (dk_at dksX1_isIn_0 10 rfl rfl)
theorem dX1_isIn_11 : decode cX1_isIn 11 = .ok (.goto 4, 3) := dk_167 0 4 (dk_at dksX1_isIn_0 11 rfl rfl)
theorem dX1_isIn_14 : decode cX1_isIn 14 = .ok (.iconst 0, 1) := dk_3 (dk_at dksX1_isIn_0 14 rfl rfl)
theorem dX1_isIn_15 : decode cX1_isIn 15 = .ok (.ireturn, 1) := dk_172 (dk_at dksX1_isIn_0 15 rfl rfl)
abbrev cX1_undoCount : ByteArray := prog_1_method_71_code
def yX1_undoCount : MethodName := ⟨RX1, "undoCount", "()I"⟩
def dkwX1_undoCount_0 : List UInt8 := [42, 180, 0, 57, 185, 0, 72, 1, 0, 172]
abbrev dktX1_undoCount_0 : List UInt8 := dkwX1_undoCount_0 ++ []
theorem dksX1_undoCount_0 : cX1_undoCount.data.toList.drop 0 = dktX1_undoCount_0 := by decide +kernel
theorem dX1_undoCount_0 : decode cX1_undoCount 0 = .ok (.aload_n 0, 1) := dk_42 (dk_at dksX1_undoCount_0 0 rfl rfl)
theorem dX1_undoCount_1 : decode cX1_undoCount 1 = .ok (.getfield 57, 3) := dk_180 0 57 (dk_at dksX1_undoCount_0 1 rfl rfl)
theorem dX1_undoCount_4 : decode cX1_undoCount 4 = .ok (.invokeinterface 72 1, 5) := by decide +kernel
theorem dX1_undoCount_9 : decode cX1_undoCount 9 = .ok (.ireturn, 1) := dk_172 (dk_at dksX1_undoCount_0 9 rfl rfl)
abbrev cX1_start : ByteArray := prog_1_method_17_code
def yX1_start : MethodName := ⟨RX1, "start", "(II)I"⟩
def dkwX1_start_2 : List UInt8 := [182, 0, 122, 62, 42, 180, 0, 37, 182, 0, 98, 172]
abbrev dktX1_start_2 : List UInt8 := dkwX1_start_2 ++ []
def dkwX1_start_1 : List UInt8 := [3, 184, 0, 19, 42, 4, 182, 0, 115, 42, 180, 0, 37, 27, 28, 182, 0, 118, 42, 180, 0, 42]
abbrev dktX1_start_1 : List UInt8 := dkwX1_start_1 ++ dktX1_start_2
def dkwX1_start_0 : List UInt8 := [27, 7, 8, 184, 0, 15, 153, 0, 18, 28, 5, 27, 4, 100, 184, 0, 15, 153, 0, 7, 4, 167, 0, 4]
abbrev dktX1_start_0 : List UInt8 := dkwX1_start_0 ++ dktX1_start_1
theorem dksX1_start_0 : cX1_start.data.toList.drop 0 = dktX1_start_0 := by decide +kernel
theorem dksX1_start_1 : cX1_start.data.toList.drop 24 = dktX1_start_1 := dk_seg dksX1_start_0 24 rfl rfl
theorem dksX1_start_2 : cX1_start.data.toList.drop 46 = dktX1_start_2 := dk_seg dksX1_start_1 22 rfl rfl
theorem dX1_start_0 : decode cX1_start 0 = .ok (.iload_n 1, 1) := dk_27 (dk_at dksX1_start_0 0 rfl rfl)
theorem dX1_start_1 : decode cX1_start 1 = .ok (.iconst 4, 1) := dk_7 (dk_at dksX1_start_0 1 rfl rfl)
theorem dX1_start_2 : decode cX1_start 2 = .ok (.iconst 5, 1) := dk_8 (dk_at dksX1_start_0 2 rfl rfl)
theorem dX1_start_3 : decode cX1_start 3 = .ok (.invokestatic 15, 3) := dk_184 0 15 (dk_at dksX1_start_0 3 rfl rfl)
theorem dX1_start_6 : decode cX1_start 6 = .ok (.ifCond .eq 18, 3) := dk_153 0 18 (dk_at dksX1_start_0 6 rfl rfl)
theorem dX1_start_9 : decode cX1_start 9 = .ok (.iload_n 2, 1) := dk_28 (dk_at dksX1_start_0 9 rfl rfl)
theorem dX1_start_10 : decode cX1_start 10 = .ok (.iconst 2, 1) := dk_5 (dk_at dksX1_start_0 10 rfl rfl)
theorem dX1_start_11 : decode cX1_start 11 = .ok (.iload_n 1, 1) := dk_27 (dk_at dksX1_start_0 11 rfl rfl)
theorem dX1_start_12 : decode cX1_start 12 = .ok (.iconst 1, 1) := dk_4 (dk_at dksX1_start_0 12 rfl rfl)
theorem dX1_start_13 : decode cX1_start 13 = .ok (.isub, 1) := dk_100 (dk_at dksX1_start_0 13 rfl rfl)
theorem dX1_start_14 : decode cX1_start 14 = .ok (.invokestatic 15, 3) := dk_184 0 15 (dk_at dksX1_start_0 14 rfl rfl)
theorem dX1_start_17 : decode cX1_start 17 = .ok (.ifCond .eq 7, 3) := dk_153 0 7 (dk_at dksX1_start_0 17 rfl rfl)
theorem dX1_start_20 : decode cX1_start 20 = .ok (.iconst 1, 1) := dk_4 (dk_at dksX1_start_0 20 rfl rfl)
theorem dX1_start_21 : decode cX1_start 21 = .ok (.goto 4, 3) := dk_167 0 4 (dk_at dksX1_start_0 21 rfl rfl)
theorem dX1_start_24 : decode cX1_start 24 = .ok (.iconst 0, 1) := dk_3 (dk_at dksX1_start_1 0 rfl rfl)
theorem dX1_start_25 : decode cX1_start 25 = .ok (.invokestatic 19, 3) := dk_184 0 19 (dk_at dksX1_start_1 1 rfl rfl)
theorem dX1_start_28 : decode cX1_start 28 = .ok (.aload_n 0, 1) := dk_42 (dk_at dksX1_start_1 4 rfl rfl)
theorem dX1_start_29 : decode cX1_start 29 = .ok (.iconst 1, 1) := dk_4 (dk_at dksX1_start_1 5 rfl rfl)
theorem dX1_start_30 : decode cX1_start 30 = .ok (.invokevirtual 115, 3) := dk_182 0 115 (dk_at dksX1_start_1 6 rfl rfl)
theorem dX1_start_33 : decode cX1_start 33 = .ok (.aload_n 0, 1) := dk_42 (dk_at dksX1_start_1 9 rfl rfl)
theorem dX1_start_34 : decode cX1_start 34 = .ok (.getfield 37, 3) := dk_180 0 37 (dk_at dksX1_start_1 10 rfl rfl)
theorem dX1_start_37 : decode cX1_start 37 = .ok (.iload_n 1, 1) := dk_27 (dk_at dksX1_start_1 13 rfl rfl)
theorem dX1_start_38 : decode cX1_start 38 = .ok (.iload_n 2, 1) := dk_28 (dk_at dksX1_start_1 14 rfl rfl)
theorem dX1_start_39 : decode cX1_start 39 = .ok (.invokevirtual 118, 3) := dk_182 0 118 (dk_at dksX1_start_1 15 rfl rfl)
theorem dX1_start_42 : decode cX1_start 42 = .ok (.aload_n 0, 1) := dk_42 (dk_at dksX1_start_1 18 rfl rfl)
theorem dX1_start_43 : decode cX1_start 43 = .ok (.getfield 42, 3) := dk_180 0 42 (dk_at dksX1_start_1 19 rfl rfl)
theorem dX1_start_46 : decode cX1_start 46 = .ok (.invokevirtual 122, 3) := dk_182 0 122 (dk_at dksX1_start_2 0 rfl rfl)
theorem dX1_start_49 : decode cX1_start 49 = .ok (.istore_n 3, 1) := dk_62 (dk_at dksX1_start_2 3 rfl rfl)
theorem dX1_start_50 : decode cX1_start 50 = .ok (.aload_n 0, 1) := dk_42 (dk_at dksX1_start_2 4 rfl rfl)
theorem dX1_start_51 : decode cX1_start 51 = .ok (.getfield 37, 3) := dk_180 0 37 (dk_at dksX1_start_2 5 rfl rfl)
theorem dX1_start_54 : decode cX1_start 54 = .ok (.invokevirtual 98, 3) := dk_182 0 98 (dk_at dksX1_start_2 8 rfl rfl)
theorem dX1_start_57 : decode cX1_start 57 = .ok (.ireturn, 1) := dk_172 (dk_at dksX1_start_2 11 rfl rfl)
abbrev cX1_checkArgument : ByteArray := prog_1_method_5_code
def yX1_checkArgument : MethodName := ⟨RX1, "checkArgument", "(Z)V"⟩
def dkwX1_checkArgument_0 : List UInt8 := [26, 154, 0, 11, 187, 0, 7, 89, 183, 0, 9, 191, 177]
abbrev dktX1_checkArgument_0 : List UInt8 := dkwX1_checkArgument_0 ++ []
theorem dksX1_checkArgument_0 : cX1_checkArgument.data.toList.drop 0 = dktX1_checkArgument_0 := by decide +kernel
theorem dX1_checkArgument_0 : decode cX1_checkArgument 0 = .ok (.iload_n 0, 1) := dk_26 (dk_at dksX1_checkArgument_0 0 rfl rfl)
theorem dX1_checkArgument_1 : decode cX1_checkArgument 1 = .ok (.ifCond .ne 11, 3) := dk_154 0 11 (dk_at dksX1_checkArgument_0 1 rfl rfl)
theorem dX1_checkArgument_4 : decode cX1_checkArgument 4 = .ok (.new 7, 3) := dk_187 0 7 (dk_at dksX1_checkArgument_0 4 rfl rfl)
theorem dX1_checkArgument_7 : decode cX1_checkArgument 7 = .ok (.dup, 1) := dk_89 (dk_at dksX1_checkArgument_0 7 rfl rfl)
theorem dX1_checkArgument_8 : decode cX1_checkArgument 8 = .ok (.invokespecial 9, 3) := dk_183 0 9 (dk_at dksX1_checkArgument_0 8 rfl rfl)
theorem dX1_checkArgument_11 : decode cX1_checkArgument 11 = .ok (.athrow, 1) := dk_191 (dk_at dksX1_checkArgument_0 11 rfl rfl)
theorem dX1_checkArgument_12 : decode cX1_checkArgument 12 = .ok (.return_, 1) := dk_177 (dk_at dksX1_checkArgument_0 12 rfl rfl)
abbrev cX1_setTelling : ByteArray := prog_1_method_20_code
def yX1_setTelling : MethodName := ⟨RX1, "setTelling", "(IIZ)I"⟩
def dkwX1_setTelling_0 : List UInt8 := [42, 27, 28, 29, 4, 182, 0, 142, 172]
abbrev dktX1_setTelling_0 : List UInt8 := dkwX1_setTelling_0 ++ []
theorem dksX1_setTelling_0 : cX1_setTelling.data.toList.drop 0 = dktX1_setTelling_0 := by decide +kernel
theorem dX1_setTelling_0 : decode cX1_setTelling 0 = .ok (.aload_n 0, 1) := dk_42 (dk_at dksX1_setTelling_0 0 rfl rfl)
theorem dX1_setTelling_1 : decode cX1_setTelling 1 = .ok (.iload_n 1, 1) := dk_27 (dk_at dksX1_setTelling_0 1 rfl rfl)
theorem dX1_setTelling_2 : decode cX1_setTelling 2 = .ok (.iload_n 2, 1) := dk_28 (dk_at dksX1_setTelling_0 2 rfl rfl)
theorem dX1_setTelling_3 : decode cX1_setTelling 3 = .ok (.iload_n 3, 1) := dk_29 (dk_at dksX1_setTelling_0 3 rfl rfl)
theorem dX1_setTelling_4 : decode cX1_setTelling 4 = .ok (.iconst 1, 1) := dk_4 (dk_at dksX1_setTelling_0 4 rfl rfl)
theorem dX1_setTelling_5 : decode cX1_setTelling 5 = .ok (.invokevirtual 142, 3) := dk_182 0 142 (dk_at dksX1_setTelling_0 5 rfl rfl)
theorem dX1_setTelling_8 : decode cX1_setTelling 8 = .ok (.ireturn, 1) := dk_172 (dk_at dksX1_setTelling_0 8 rfl rfl)
abbrev cX1_tell : ByteArray := prog_1_method_19_code
def yX1_tell : MethodName := ⟨RX1, "tell", "(IIZZ)I"⟩
def dkwX1_tell_1 : List UInt8 := [182, 0, 138, 172]
abbrev dktX1_tell_1 : List UInt8 := dkwX1_tell_1 ++ []
def dkwX1_tell_0 : List UInt8 := [42, 27, 182, 0, 132, 42, 28, 182, 0, 135, 42, 21, 4, 182, 0, 115, 42, 180, 0, 37, 27, 28, 29]
abbrev dktX1_tell_0 : List UInt8 := dkwX1_tell_0 ++ dktX1_tell_1
theorem dksX1_tell_0 : cX1_tell.data.toList.drop 0 = dktX1_tell_0 := by decide +kernel
theorem dksX1_tell_1 : cX1_tell.data.toList.drop 23 = dktX1_tell_1 := dk_seg dksX1_tell_0 23 rfl rfl
theorem dX1_tell_0 : decode cX1_tell 0 = .ok (.aload_n 0, 1) := dk_42 (dk_at dksX1_tell_0 0 rfl rfl)
theorem dX1_tell_1 : decode cX1_tell 1 = .ok (.iload_n 1, 1) := dk_27 (dk_at dksX1_tell_0 1 rfl rfl)
theorem dX1_tell_2 : decode cX1_tell 2 = .ok (.invokevirtual 132, 3) := dk_182 0 132 (dk_at dksX1_tell_0 2 rfl rfl)
theorem dX1_tell_5 : decode cX1_tell 5 = .ok (.aload_n 0, 1) := dk_42 (dk_at dksX1_tell_0 5 rfl rfl)
theorem dX1_tell_6 : decode cX1_tell 6 = .ok (.iload_n 2, 1) := dk_28 (dk_at dksX1_tell_0 6 rfl rfl)
theorem dX1_tell_7 : decode cX1_tell 7 = .ok (.invokevirtual 135, 3) := dk_182 0 135 (dk_at dksX1_tell_0 7 rfl rfl)
theorem dX1_tell_10 : decode cX1_tell 10 = .ok (.aload_n 0, 1) := dk_42 (dk_at dksX1_tell_0 10 rfl rfl)
theorem dX1_tell_11 : decode cX1_tell 11 = .ok (.iload 4, 2) := dk_21 4 (dk_at dksX1_tell_0 11 rfl rfl)
theorem dX1_tell_13 : decode cX1_tell 13 = .ok (.invokevirtual 115, 3) := dk_182 0 115 (dk_at dksX1_tell_0 13 rfl rfl)
theorem dX1_tell_16 : decode cX1_tell 16 = .ok (.aload_n 0, 1) := dk_42 (dk_at dksX1_tell_0 16 rfl rfl)
theorem dX1_tell_17 : decode cX1_tell 17 = .ok (.getfield 37, 3) := dk_180 0 37 (dk_at dksX1_tell_0 17 rfl rfl)
theorem dX1_tell_20 : decode cX1_tell 20 = .ok (.iload_n 1, 1) := dk_27 (dk_at dksX1_tell_0 20 rfl rfl)
theorem dX1_tell_21 : decode cX1_tell 21 = .ok (.iload_n 2, 1) := dk_28 (dk_at dksX1_tell_0 21 rfl rfl)
theorem dX1_tell_22 : decode cX1_tell 22 = .ok (.iload_n 3, 1) := dk_29 (dk_at dksX1_tell_0 22 rfl rfl)
theorem dX1_tell_23 : decode cX1_tell 23 = .ok (.invokevirtual 138, 3) := dk_182 0 138 (dk_at dksX1_tell_1 0 rfl rfl)
theorem dX1_tell_26 : decode cX1_tell 26 = .ok (.ireturn, 1) := dk_172 (dk_at dksX1_tell_1 3 rfl rfl)
abbrev cX1_checkEdge : ByteArray := prog_1_method_11_code
def yX1_checkEdge : MethodName := ⟨RX1, "checkEdge", "(I)V"⟩
def dkwX1_checkEdge_0 : List UInt8 := [27, 3, 42, 180, 0, 37, 182, 0, 90, 4, 100, 184, 0, 15, 184, 0, 95, 177]
abbrev dktX1_checkEdge_0 : List UInt8 := dkwX1_checkEdge_0 ++ []
theorem dksX1_checkEdge_0 : cX1_checkEdge.data.toList.drop 0 = dktX1_checkEdge_0 := by decide +kernel
theorem dX1_checkEdge_0 : decode cX1_checkEdge 0 = .ok (.iload_n 1, 1) := dk_27 (dk_at dksX1_checkEdge_0 0 rfl rfl)
theorem dX1_checkEdge_1 : decode cX1_checkEdge 1 = .ok (.iconst 0, 1) := dk_3 (dk_at dksX1_checkEdge_0 1 rfl rfl)
theorem dX1_checkEdge_2 : decode cX1_checkEdge 2 = .ok (.aload_n 0, 1) := dk_42 (dk_at dksX1_checkEdge_0 2 rfl rfl)
theorem dX1_checkEdge_3 : decode cX1_checkEdge 3 = .ok (.getfield 37, 3) := dk_180 0 37 (dk_at dksX1_checkEdge_0 3 rfl rfl)
theorem dX1_checkEdge_6 : decode cX1_checkEdge 6 = .ok (.invokevirtual 90, 3) := dk_182 0 90 (dk_at dksX1_checkEdge_0 6 rfl rfl)
theorem dX1_checkEdge_9 : decode cX1_checkEdge 9 = .ok (.iconst 1, 1) := dk_4 (dk_at dksX1_checkEdge_0 9 rfl rfl)
theorem dX1_checkEdge_10 : decode cX1_checkEdge 10 = .ok (.isub, 1) := dk_100 (dk_at dksX1_checkEdge_0 10 rfl rfl)
theorem dX1_checkEdge_11 : decode cX1_checkEdge 11 = .ok (.invokestatic 15, 3) := dk_184 0 15 (dk_at dksX1_checkEdge_0 11 rfl rfl)
theorem dX1_checkEdge_14 : decode cX1_checkEdge 14 = .ok (.invokestatic 95, 3) := dk_184 0 95 (dk_at dksX1_checkEdge_0 14 rfl rfl)
theorem dX1_checkEdge_17 : decode cX1_checkEdge 17 = .ok (.return_, 1) := dk_177 (dk_at dksX1_checkEdge_0 17 rfl rfl)
abbrev cX1_checkIndex : ByteArray := prog_1_method_4_code
def yX1_checkIndex : MethodName := ⟨RX1, "checkIndex", "(Z)V"⟩
def dkwX1_checkIndex_0 : List UInt8 := [26, 154, 0, 11, 187, 0, 1, 89, 183, 0, 3, 191, 177]
abbrev dktX1_checkIndex_0 : List UInt8 := dkwX1_checkIndex_0 ++ []
theorem dksX1_checkIndex_0 : cX1_checkIndex.data.toList.drop 0 = dktX1_checkIndex_0 := by decide +kernel
theorem dX1_checkIndex_0 : decode cX1_checkIndex 0 = .ok (.iload_n 0, 1) := dk_26 (dk_at dksX1_checkIndex_0 0 rfl rfl)
theorem dX1_checkIndex_1 : decode cX1_checkIndex 1 = .ok (.ifCond .ne 11, 3) := dk_154 0 11 (dk_at dksX1_checkIndex_0 1 rfl rfl)
theorem dX1_checkIndex_4 : decode cX1_checkIndex 4 = .ok (.new 1, 3) := dk_187 0 1 (dk_at dksX1_checkIndex_0 4 rfl rfl)
theorem dX1_checkIndex_7 : decode cX1_checkIndex 7 = .ok (.dup, 1) := dk_89 (dk_at dksX1_checkIndex_0 7 rfl rfl)
theorem dX1_checkIndex_8 : decode cX1_checkIndex 8 = .ok (.invokespecial 3, 3) := dk_183 0 3 (dk_at dksX1_checkIndex_0 8 rfl rfl)
theorem dX1_checkIndex_11 : decode cX1_checkIndex 11 = .ok (.athrow, 1) := dk_191 (dk_at dksX1_checkIndex_0 11 rfl rfl)
theorem dX1_checkIndex_12 : decode cX1_checkIndex 12 = .ok (.return_, 1) := dk_177 (dk_at dksX1_checkIndex_0 12 rfl rfl)
abbrev cX1_checkLetter : ByteArray := prog_1_method_15_code
def yX1_checkLetter : MethodName := ⟨RX1, "checkLetter", "(I)V"⟩
def dkwX1_checkLetter_0 : List UInt8 := [27, 3, 42, 180, 0, 37, 180, 0, 112, 4, 100, 184, 0, 15, 184, 0, 19, 177]
abbrev dktX1_checkLetter_0 : List UInt8 := dkwX1_checkLetter_0 ++ []
theorem dksX1_checkLetter_0 : cX1_checkLetter.data.toList.drop 0 = dktX1_checkLetter_0 := by decide +kernel
theorem dX1_checkLetter_0 : decode cX1_checkLetter 0 = .ok (.iload_n 1, 1) := dk_27 (dk_at dksX1_checkLetter_0 0 rfl rfl)
theorem dX1_checkLetter_1 : decode cX1_checkLetter 1 = .ok (.iconst 0, 1) := dk_3 (dk_at dksX1_checkLetter_0 1 rfl rfl)
theorem dX1_checkLetter_2 : decode cX1_checkLetter 2 = .ok (.aload_n 0, 1) := dk_42 (dk_at dksX1_checkLetter_0 2 rfl rfl)
theorem dX1_checkLetter_3 : decode cX1_checkLetter 3 = .ok (.getfield 37, 3) := dk_180 0 37 (dk_at dksX1_checkLetter_0 3 rfl rfl)
theorem dX1_checkLetter_6 : decode cX1_checkLetter 6 = .ok (.getfield 112, 3) := dk_180 0 112 (dk_at dksX1_checkLetter_0 6 rfl rfl)
theorem dX1_checkLetter_9 : decode cX1_checkLetter 9 = .ok (.iconst 1, 1) := dk_4 (dk_at dksX1_checkLetter_0 9 rfl rfl)
theorem dX1_checkLetter_10 : decode cX1_checkLetter 10 = .ok (.isub, 1) := dk_100 (dk_at dksX1_checkLetter_0 10 rfl rfl)
theorem dX1_checkLetter_11 : decode cX1_checkLetter 11 = .ok (.invokestatic 15, 3) := dk_184 0 15 (dk_at dksX1_checkLetter_0 11 rfl rfl)
theorem dX1_checkLetter_14 : decode cX1_checkLetter 14 = .ok (.invokestatic 19, 3) := dk_184 0 19 (dk_at dksX1_checkLetter_0 14 rfl rfl)
theorem dX1_checkLetter_17 : decode cX1_checkLetter 17 = .ok (.return_, 1) := dk_177 (dk_at dksX1_checkLetter_0 17 rfl rfl)
abbrev cX1_clearTelling : ByteArray := prog_1_method_22_code
def yX1_clearTelling : MethodName := ⟨RX1, "clearTelling", "(I)I"⟩
def dkwX1_clearTelling_0 : List UInt8 := [42, 27, 4, 182, 0, 155, 172]
abbrev dktX1_clearTelling_0 : List UInt8 := dkwX1_clearTelling_0 ++ []
theorem dksX1_clearTelling_0 : cX1_clearTelling.data.toList.drop 0 = dktX1_clearTelling_0 := by decide +kernel
theorem dX1_clearTelling_0 : decode cX1_clearTelling 0 = .ok (.aload_n 0, 1) := dk_42 (dk_at dksX1_clearTelling_0 0 rfl rfl)
theorem dX1_clearTelling_1 : decode cX1_clearTelling 1 = .ok (.iload_n 1, 1) := dk_27 (dk_at dksX1_clearTelling_0 1 rfl rfl)
theorem dX1_clearTelling_2 : decode cX1_clearTelling 2 = .ok (.iconst 1, 1) := dk_4 (dk_at dksX1_clearTelling_0 2 rfl rfl)
theorem dX1_clearTelling_3 : decode cX1_clearTelling 3 = .ok (.invokevirtual 155, 3) := dk_182 0 155 (dk_at dksX1_clearTelling_0 3 rfl rfl)
theorem dX1_clearTelling_6 : decode cX1_clearTelling 6 = .ok (.ireturn, 1) := dk_172 (dk_at dksX1_clearTelling_0 6 rfl rfl)
abbrev cX1_untell : ByteArray := prog_1_method_21_code
def yX1_untell : MethodName := ⟨RX1, "untell", "(IZ)I"⟩
def dkwX1_untell_2 : List UInt8 := [182, 0, 152, 172]
abbrev dktX1_untell_2 : List UInt8 := dkwX1_untell_2 ++ []
def dkwX1_untell_1 : List UInt8 := [184, 0, 149, 42, 28, 182, 0, 115, 42, 180, 0, 37, 27, 2, 3, 182, 0, 138, 62, 42, 180, 0, 37]
abbrev dktX1_untell_1 : List UInt8 := dkwX1_untell_1 ++ dktX1_untell_2
def dkwX1_untell_0 : List UInt8 := [42, 27, 182, 0, 132, 42, 180, 0, 37, 180, 0, 145, 27, 46, 2, 159, 0, 7, 4, 167, 0, 4, 3]
abbrev dktX1_untell_0 : List UInt8 := dkwX1_untell_0 ++ dktX1_untell_1
theorem dksX1_untell_0 : cX1_untell.data.toList.drop 0 = dktX1_untell_0 := by decide +kernel
theorem dksX1_untell_1 : cX1_untell.data.toList.drop 23 = dktX1_untell_1 := dk_seg dksX1_untell_0 23 rfl rfl
theorem dksX1_untell_2 : cX1_untell.data.toList.drop 46 = dktX1_untell_2 := dk_seg dksX1_untell_1 23 rfl rfl
theorem dX1_untell_0 : decode cX1_untell 0 = .ok (.aload_n 0, 1) := dk_42 (dk_at dksX1_untell_0 0 rfl rfl)
theorem dX1_untell_1 : decode cX1_untell 1 = .ok (.iload_n 1, 1) := dk_27 (dk_at dksX1_untell_0 1 rfl rfl)
theorem dX1_untell_2 : decode cX1_untell 2 = .ok (.invokevirtual 132, 3) := dk_182 0 132 (dk_at dksX1_untell_0 2 rfl rfl)
theorem dX1_untell_5 : decode cX1_untell 5 = .ok (.aload_n 0, 1) := dk_42 (dk_at dksX1_untell_0 5 rfl rfl)
theorem dX1_untell_6 : decode cX1_untell 6 = .ok (.getfield 37, 3) := dk_180 0 37 (dk_at dksX1_untell_0 6 rfl rfl)
theorem dX1_untell_9 : decode cX1_untell 9 = .ok (.getfield 145, 3) := dk_180 0 145 (dk_at dksX1_untell_0 9 rfl rfl)
theorem dX1_untell_12 : decode cX1_untell 12 = .ok (.iload_n 1, 1) := dk_27 (dk_at dksX1_untell_0 12 rfl rfl)
theorem dX1_untell_13 : decode cX1_untell 13 = .ok (.iaload, 1) := dk_46 (dk_at dksX1_untell_0 13 rfl rfl)
theorem dX1_untell_14 : decode cX1_untell 14 = .ok (.iconst (-1), 1) := dk_2 (dk_at dksX1_untell_0 14 rfl rfl)
theorem dX1_untell_15 : decode cX1_untell 15 = .ok (.if_icmp .eq 7, 3) := dk_159 0 7 (dk_at dksX1_untell_0 15 rfl rfl)
theorem dX1_untell_18 : decode cX1_untell 18 = .ok (.iconst 1, 1) := dk_4 (dk_at dksX1_untell_0 18 rfl rfl)
theorem dX1_untell_19 : decode cX1_untell 19 = .ok (.goto 4, 3) := dk_167 0 4 (dk_at dksX1_untell_0 19 rfl rfl)
theorem dX1_untell_22 : decode cX1_untell 22 = .ok (.iconst 0, 1) := dk_3 (dk_at dksX1_untell_0 22 rfl rfl)
theorem dX1_untell_23 : decode cX1_untell 23 = .ok (.invokestatic 149, 3) := dk_184 0 149 (dk_at dksX1_untell_1 0 rfl rfl)
theorem dX1_untell_26 : decode cX1_untell 26 = .ok (.aload_n 0, 1) := dk_42 (dk_at dksX1_untell_1 3 rfl rfl)
theorem dX1_untell_27 : decode cX1_untell 27 = .ok (.iload_n 2, 1) := dk_28 (dk_at dksX1_untell_1 4 rfl rfl)
theorem dX1_untell_28 : decode cX1_untell 28 = .ok (.invokevirtual 115, 3) := dk_182 0 115 (dk_at dksX1_untell_1 5 rfl rfl)
theorem dX1_untell_31 : decode cX1_untell 31 = .ok (.aload_n 0, 1) := dk_42 (dk_at dksX1_untell_1 8 rfl rfl)
theorem dX1_untell_32 : decode cX1_untell 32 = .ok (.getfield 37, 3) := dk_180 0 37 (dk_at dksX1_untell_1 9 rfl rfl)
theorem dX1_untell_35 : decode cX1_untell 35 = .ok (.iload_n 1, 1) := dk_27 (dk_at dksX1_untell_1 12 rfl rfl)
theorem dX1_untell_36 : decode cX1_untell 36 = .ok (.iconst (-1), 1) := dk_2 (dk_at dksX1_untell_1 13 rfl rfl)
theorem dX1_untell_37 : decode cX1_untell 37 = .ok (.iconst 0, 1) := dk_3 (dk_at dksX1_untell_1 14 rfl rfl)
theorem dX1_untell_38 : decode cX1_untell 38 = .ok (.invokevirtual 138, 3) := dk_182 0 138 (dk_at dksX1_untell_1 15 rfl rfl)
theorem dX1_untell_41 : decode cX1_untell 41 = .ok (.istore_n 3, 1) := dk_62 (dk_at dksX1_untell_1 18 rfl rfl)
theorem dX1_untell_42 : decode cX1_untell 42 = .ok (.aload_n 0, 1) := dk_42 (dk_at dksX1_untell_1 19 rfl rfl)
theorem dX1_untell_43 : decode cX1_untell 43 = .ok (.getfield 37, 3) := dk_180 0 37 (dk_at dksX1_untell_1 20 rfl rfl)
theorem dX1_untell_46 : decode cX1_untell 46 = .ok (.invokevirtual 152, 3) := dk_182 0 152 (dk_at dksX1_untell_2 0 rfl rfl)
theorem dX1_untell_49 : decode cX1_untell 49 = .ok (.ireturn, 1) := dk_172 (dk_at dksX1_untell_2 3 rfl rfl)
abbrev cX1_checkState : ByteArray := prog_1_method_6_code
def yX1_checkState : MethodName := ⟨RX1, "checkState", "(Z)V"⟩
def dkwX1_checkState_0 : List UInt8 := [26, 154, 0, 11, 187, 0, 10, 89, 183, 0, 12, 191, 177]
abbrev dktX1_checkState_0 : List UInt8 := dkwX1_checkState_0 ++ []
theorem dksX1_checkState_0 : cX1_checkState.data.toList.drop 0 = dktX1_checkState_0 := by decide +kernel
theorem dX1_checkState_0 : decode cX1_checkState 0 = .ok (.iload_n 0, 1) := dk_26 (dk_at dksX1_checkState_0 0 rfl rfl)
theorem dX1_checkState_1 : decode cX1_checkState 1 = .ok (.ifCond .ne 11, 3) := dk_154 0 11 (dk_at dksX1_checkState_0 1 rfl rfl)
theorem dX1_checkState_4 : decode cX1_checkState 4 = .ok (.new 10, 3) := dk_187 0 10 (dk_at dksX1_checkState_0 4 rfl rfl)
theorem dX1_checkState_7 : decode cX1_checkState 7 = .ok (.dup, 1) := dk_89 (dk_at dksX1_checkState_0 7 rfl rfl)
theorem dX1_checkState_8 : decode cX1_checkState 8 = .ok (.invokespecial 12, 3) := dk_183 0 12 (dk_at dksX1_checkState_0 8 rfl rfl)
theorem dX1_checkState_11 : decode cX1_checkState 11 = .ok (.athrow, 1) := dk_191 (dk_at dksX1_checkState_0 11 rfl rfl)
theorem dX1_checkState_12 : decode cX1_checkState 12 = .ok (.return_, 1) := dk_177 (dk_at dksX1_checkState_0 12 rfl rfl)
abbrev cX1_exchange : ByteArray := prog_1_method_26_code
def yX1_exchange : MethodName := ⟨RX1, "exchange", "(II)I"⟩
def dkwX1_exchange_4 : List UInt8 := [132, 3, 1, 167, 255, 178, 42, 180, 0, 37, 27, 28, 182, 0, 201, 172]
abbrev dktX1_exchange_4 : List UInt8 := dkwX1_exchange_4 ++ []
def dkwX1_exchange_3 : List UInt8 := [180, 0, 159, 29, 92, 46, 21, 4, 153, 0, 13, 4, 27, 120, 4, 28, 120, 128, 167, 0, 4, 3, 130, 79]
abbrev dktX1_exchange_3 : List UInt8 := dkwX1_exchange_3 ++ dktX1_exchange_4
def dkwX1_exchange_2 : List UInt8 := [180, 0, 159, 29, 46, 28, 184, 0, 197, 159, 0, 7, 4, 167, 0, 4, 3, 54, 4, 42, 180, 0, 42]
abbrev dktX1_exchange_2 : List UInt8 := dkwX1_exchange_2 ++ dktX1_exchange_3
def dkwX1_exchange_1 : List UInt8 := [182, 0, 98, 162, 0, 73, 42, 180, 0, 42, 180, 0, 159, 29, 46, 27, 184, 0, 197, 42, 180, 0, 42]
abbrev dktX1_exchange_1 : List UInt8 := dkwX1_exchange_1 ++ dktX1_exchange_2
def dkwX1_exchange_0 : List UInt8 := [42, 27, 182, 0, 135, 42, 28, 182, 0, 135, 42, 4, 182, 0, 115, 3, 62, 29, 42, 180, 0, 37]
abbrev dktX1_exchange_0 : List UInt8 := dkwX1_exchange_0 ++ dktX1_exchange_1
theorem dksX1_exchange_0 : cX1_exchange.data.toList.drop 0 = dktX1_exchange_0 := by decide +kernel
theorem dksX1_exchange_1 : cX1_exchange.data.toList.drop 22 = dktX1_exchange_1 := dk_seg dksX1_exchange_0 22 rfl rfl
theorem dksX1_exchange_2 : cX1_exchange.data.toList.drop 45 = dktX1_exchange_2 := dk_seg dksX1_exchange_1 23 rfl rfl
theorem dksX1_exchange_3 : cX1_exchange.data.toList.drop 68 = dktX1_exchange_3 := dk_seg dksX1_exchange_2 23 rfl rfl
theorem dksX1_exchange_4 : cX1_exchange.data.toList.drop 92 = dktX1_exchange_4 := dk_seg dksX1_exchange_3 24 rfl rfl
theorem dX1_exchange_0 : decode cX1_exchange 0 = .ok (.aload_n 0, 1) := dk_42 (dk_at dksX1_exchange_0 0 rfl rfl)
theorem dX1_exchange_1 : decode cX1_exchange 1 = .ok (.iload_n 1, 1) := dk_27 (dk_at dksX1_exchange_0 1 rfl rfl)
theorem dX1_exchange_2 : decode cX1_exchange 2 = .ok (.invokevirtual 135, 3) := dk_182 0 135 (dk_at dksX1_exchange_0 2 rfl rfl)
theorem dX1_exchange_5 : decode cX1_exchange 5 = .ok (.aload_n 0, 1) := dk_42 (dk_at dksX1_exchange_0 5 rfl rfl)
theorem dX1_exchange_6 : decode cX1_exchange 6 = .ok (.iload_n 2, 1) := dk_28 (dk_at dksX1_exchange_0 6 rfl rfl)
theorem dX1_exchange_7 : decode cX1_exchange 7 = .ok (.invokevirtual 135, 3) := dk_182 0 135 (dk_at dksX1_exchange_0 7 rfl rfl)
theorem dX1_exchange_10 : decode cX1_exchange 10 = .ok (.aload_n 0, 1) := dk_42 (dk_at dksX1_exchange_0 10 rfl rfl)
theorem dX1_exchange_11 : decode cX1_exchange 11 = .ok (.iconst 1, 1) := dk_4 (dk_at dksX1_exchange_0 11 rfl rfl)
theorem dX1_exchange_12 : decode cX1_exchange 12 = .ok (.invokevirtual 115, 3) := dk_182 0 115 (dk_at dksX1_exchange_0 12 rfl rfl)
theorem dX1_exchange_15 : decode cX1_exchange 15 = .ok (.iconst 0, 1) := dk_3 (dk_at dksX1_exchange_0 15 rfl rfl)
theorem dX1_exchange_16 : decode cX1_exchange 16 = .ok (.istore_n 3, 1) := dk_62 (dk_at dksX1_exchange_0 16 rfl rfl)
theorem dX1_exchange_17 : decode cX1_exchange 17 = .ok (.iload_n 3, 1) := dk_29 (dk_at dksX1_exchange_0 17 rfl rfl)
theorem dX1_exchange_18 : decode cX1_exchange 18 = .ok (.aload_n 0, 1) := dk_42 (dk_at dksX1_exchange_0 18 rfl rfl)
theorem dX1_exchange_19 : decode cX1_exchange 19 = .ok (.getfield 37, 3) := dk_180 0 37 (dk_at dksX1_exchange_0 19 rfl rfl)
theorem dX1_exchange_22 : decode cX1_exchange 22 = .ok (.invokevirtual 98, 3) := dk_182 0 98 (dk_at dksX1_exchange_1 0 rfl rfl)
theorem dX1_exchange_25 : decode cX1_exchange 25 = .ok (.if_icmp .ge 73, 3) := dk_162 0 73 (dk_at dksX1_exchange_1 3 rfl rfl)
theorem dX1_exchange_28 : decode cX1_exchange 28 = .ok (.aload_n 0, 1) := dk_42 (dk_at dksX1_exchange_1 6 rfl rfl)
theorem dX1_exchange_29 : decode cX1_exchange 29 = .ok (.getfield 42, 3) := dk_180 0 42 (dk_at dksX1_exchange_1 7 rfl rfl)
theorem dX1_exchange_32 : decode cX1_exchange 32 = .ok (.getfield 159, 3) := dk_180 0 159 (dk_at dksX1_exchange_1 10 rfl rfl)
theorem dX1_exchange_35 : decode cX1_exchange 35 = .ok (.iload_n 3, 1) := dk_29 (dk_at dksX1_exchange_1 13 rfl rfl)
theorem dX1_exchange_36 : decode cX1_exchange 36 = .ok (.iaload, 1) := dk_46 (dk_at dksX1_exchange_1 14 rfl rfl)
theorem dX1_exchange_37 : decode cX1_exchange 37 = .ok (.iload_n 1, 1) := dk_27 (dk_at dksX1_exchange_1 15 rfl rfl)
theorem dX1_exchange_38 : decode cX1_exchange 38 = .ok (.invokestatic 197, 3) := dk_184 0 197 (dk_at dksX1_exchange_1 16 rfl rfl)
theorem dX1_exchange_41 : decode cX1_exchange 41 = .ok (.aload_n 0, 1) := dk_42 (dk_at dksX1_exchange_1 19 rfl rfl)
theorem dX1_exchange_42 : decode cX1_exchange 42 = .ok (.getfield 42, 3) := dk_180 0 42 (dk_at dksX1_exchange_1 20 rfl rfl)
theorem dX1_exchange_45 : decode cX1_exchange 45 = .ok (.getfield 159, 3) := dk_180 0 159 (dk_at dksX1_exchange_2 0 rfl rfl)
theorem dX1_exchange_48 : decode cX1_exchange 48 = .ok (.iload_n 3, 1) := dk_29 (dk_at dksX1_exchange_2 3 rfl rfl)
theorem dX1_exchange_49 : decode cX1_exchange 49 = .ok (.iaload, 1) := dk_46 (dk_at dksX1_exchange_2 4 rfl rfl)
theorem dX1_exchange_50 : decode cX1_exchange 50 = .ok (.iload_n 2, 1) := dk_28 (dk_at dksX1_exchange_2 5 rfl rfl)
theorem dX1_exchange_51 : decode cX1_exchange 51 = .ok (.invokestatic 197, 3) := dk_184 0 197 (dk_at dksX1_exchange_2 6 rfl rfl)
theorem dX1_exchange_54 : decode cX1_exchange 54 = .ok (.if_icmp .eq 7, 3) := dk_159 0 7 (dk_at dksX1_exchange_2 9 rfl rfl)
theorem dX1_exchange_57 : decode cX1_exchange 57 = .ok (.iconst 1, 1) := dk_4 (dk_at dksX1_exchange_2 12 rfl rfl)
theorem dX1_exchange_58 : decode cX1_exchange 58 = .ok (.goto 4, 3) := dk_167 0 4 (dk_at dksX1_exchange_2 13 rfl rfl)
theorem dX1_exchange_61 : decode cX1_exchange 61 = .ok (.iconst 0, 1) := dk_3 (dk_at dksX1_exchange_2 16 rfl rfl)
theorem dX1_exchange_62 : decode cX1_exchange 62 = .ok (.istore 4, 2) := dk_54 4 (dk_at dksX1_exchange_2 17 rfl rfl)
theorem dX1_exchange_64 : decode cX1_exchange 64 = .ok (.aload_n 0, 1) := dk_42 (dk_at dksX1_exchange_2 19 rfl rfl)
theorem dX1_exchange_65 : decode cX1_exchange 65 = .ok (.getfield 42, 3) := dk_180 0 42 (dk_at dksX1_exchange_2 20 rfl rfl)
theorem dX1_exchange_68 : decode cX1_exchange 68 = .ok (.getfield 159, 3) := dk_180 0 159 (dk_at dksX1_exchange_3 0 rfl rfl)
theorem dX1_exchange_71 : decode cX1_exchange 71 = .ok (.iload_n 3, 1) := dk_29 (dk_at dksX1_exchange_3 3 rfl rfl)
theorem dX1_exchange_72 : decode cX1_exchange 72 = .ok (.dup2, 1) := dk_92 (dk_at dksX1_exchange_3 4 rfl rfl)
theorem dX1_exchange_73 : decode cX1_exchange 73 = .ok (.iaload, 1) := dk_46 (dk_at dksX1_exchange_3 5 rfl rfl)
theorem dX1_exchange_74 : decode cX1_exchange 74 = .ok (.iload 4, 2) := dk_21 4 (dk_at dksX1_exchange_3 6 rfl rfl)
theorem dX1_exchange_76 : decode cX1_exchange 76 = .ok (.ifCond .eq 13, 3) := dk_153 0 13 (dk_at dksX1_exchange_3 8 rfl rfl)
theorem dX1_exchange_79 : decode cX1_exchange 79 = .ok (.iconst 1, 1) := dk_4 (dk_at dksX1_exchange_3 11 rfl rfl)
theorem dX1_exchange_80 : decode cX1_exchange 80 = .ok (.iload_n 1, 1) := dk_27 (dk_at dksX1_exchange_3 12 rfl rfl)
theorem dX1_exchange_81 : decode cX1_exchange 81 = .ok (.ishl, 1) := dk_120 (dk_at dksX1_exchange_3 13 rfl rfl)
theorem dX1_exchange_82 : decode cX1_exchange 82 = .ok (.iconst 1, 1) := dk_4 (dk_at dksX1_exchange_3 14 rfl rfl)
theorem dX1_exchange_83 : decode cX1_exchange 83 = .ok (.iload_n 2, 1) := dk_28 (dk_at dksX1_exchange_3 15 rfl rfl)
theorem dX1_exchange_84 : decode cX1_exchange 84 = .ok (.ishl, 1) := dk_120 (dk_at dksX1_exchange_3 16 rfl rfl)
theorem dX1_exchange_85 : decode cX1_exchange 85 = .ok (.ior, 1) := dk_128 (dk_at dksX1_exchange_3 17 rfl rfl)
theorem dX1_exchange_86 : decode cX1_exchange 86 = .ok (.goto 4, 3) := dk_167 0 4 (dk_at dksX1_exchange_3 18 rfl rfl)
theorem dX1_exchange_89 : decode cX1_exchange 89 = .ok (.iconst 0, 1) := dk_3 (dk_at dksX1_exchange_3 21 rfl rfl)
theorem dX1_exchange_90 : decode cX1_exchange 90 = .ok (.ixor, 1) := dk_130 (dk_at dksX1_exchange_3 22 rfl rfl)
theorem dX1_exchange_91 : decode cX1_exchange 91 = .ok (.iastore, 1) := dk_79 (dk_at dksX1_exchange_3 23 rfl rfl)
theorem dX1_exchange_92 : decode cX1_exchange 92 = .ok (.iinc 3 1, 3) := dk_132 3 1 (dk_at dksX1_exchange_4 0 rfl rfl)
theorem dX1_exchange_95 : decode cX1_exchange 95 = .ok (.goto (-78), 3) := dk_167 255 178 (dk_at dksX1_exchange_4 3 rfl rfl)
theorem dX1_exchange_98 : decode cX1_exchange 98 = .ok (.aload_n 0, 1) := dk_42 (dk_at dksX1_exchange_4 6 rfl rfl)
theorem dX1_exchange_99 : decode cX1_exchange 99 = .ok (.getfield 37, 3) := dk_180 0 37 (dk_at dksX1_exchange_4 7 rfl rfl)
theorem dX1_exchange_102 : decode cX1_exchange 102 = .ok (.iload_n 1, 1) := dk_27 (dk_at dksX1_exchange_4 10 rfl rfl)
theorem dX1_exchange_103 : decode cX1_exchange 103 = .ok (.iload_n 2, 1) := dk_28 (dk_at dksX1_exchange_4 11 rfl rfl)
theorem dX1_exchange_104 : decode cX1_exchange 104 = .ok (.invokevirtual 201, 3) := dk_182 0 201 (dk_at dksX1_exchange_4 12 rfl rfl)
theorem dX1_exchange_107 : decode cX1_exchange 107 = .ok (.ireturn, 1) := dk_172 (dk_at dksX1_exchange_4 15 rfl rfl)
abbrev cX1_tellingAt : ByteArray := prog_1_method_32_code
def yX1_tellingAt : MethodName := ⟨RX1, "tellingAt", "(I)I"⟩
def dkwX1_tellingAt_0 : List UInt8 := [42, 27, 182, 0, 132, 42, 180, 0, 37, 180, 0, 145, 27, 46, 172]
abbrev dktX1_tellingAt_0 : List UInt8 := dkwX1_tellingAt_0 ++ []
theorem dksX1_tellingAt_0 : cX1_tellingAt.data.toList.drop 0 = dktX1_tellingAt_0 := by decide +kernel
theorem dX1_tellingAt_0 : decode cX1_tellingAt 0 = .ok (.aload_n 0, 1) := dk_42 (dk_at dksX1_tellingAt_0 0 rfl rfl)
theorem dX1_tellingAt_1 : decode cX1_tellingAt 1 = .ok (.iload_n 1, 1) := dk_27 (dk_at dksX1_tellingAt_0 1 rfl rfl)
theorem dX1_tellingAt_2 : decode cX1_tellingAt 2 = .ok (.invokevirtual 132, 3) := dk_182 0 132 (dk_at dksX1_tellingAt_0 2 rfl rfl)
theorem dX1_tellingAt_5 : decode cX1_tellingAt 5 = .ok (.aload_n 0, 1) := dk_42 (dk_at dksX1_tellingAt_0 5 rfl rfl)
theorem dX1_tellingAt_6 : decode cX1_tellingAt 6 = .ok (.getfield 37, 3) := dk_180 0 37 (dk_at dksX1_tellingAt_0 6 rfl rfl)
theorem dX1_tellingAt_9 : decode cX1_tellingAt 9 = .ok (.getfield 145, 3) := dk_180 0 145 (dk_at dksX1_tellingAt_0 9 rfl rfl)
theorem dX1_tellingAt_12 : decode cX1_tellingAt 12 = .ok (.iload_n 1, 1) := dk_27 (dk_at dksX1_tellingAt_0 12 rfl rfl)
theorem dX1_tellingAt_13 : decode cX1_tellingAt 13 = .ok (.iaload, 1) := dk_46 (dk_at dksX1_tellingAt_0 13 rfl rfl)
theorem dX1_tellingAt_14 : decode cX1_tellingAt 14 = .ok (.ireturn, 1) := dk_172 (dk_at dksX1_tellingAt_0 14 rfl rfl)
abbrev cX1_isSecond : ByteArray := prog_1_method_33_code
def yX1_isSecond : MethodName := ⟨RX1, "isSecond", "(I)Z"⟩
def dkwX1_isSecond_0 : List UInt8 := [42, 27, 182, 0, 132, 42, 180, 0, 37, 180, 0, 212, 27, 184, 0, 197, 172]
abbrev dktX1_isSecond_0 : List UInt8 := dkwX1_isSecond_0 ++ []
theorem dksX1_isSecond_0 : cX1_isSecond.data.toList.drop 0 = dktX1_isSecond_0 := by decide +kernel
theorem dX1_isSecond_0 : decode cX1_isSecond 0 = .ok (.aload_n 0, 1) := dk_42 (dk_at dksX1_isSecond_0 0 rfl rfl)
theorem dX1_isSecond_1 : decode cX1_isSecond 1 = .ok (.iload_n 1, 1) := dk_27 (dk_at dksX1_isSecond_0 1 rfl rfl)
theorem dX1_isSecond_2 : decode cX1_isSecond 2 = .ok (.invokevirtual 132, 3) := dk_182 0 132 (dk_at dksX1_isSecond_0 2 rfl rfl)
theorem dX1_isSecond_5 : decode cX1_isSecond 5 = .ok (.aload_n 0, 1) := dk_42 (dk_at dksX1_isSecond_0 5 rfl rfl)
theorem dX1_isSecond_6 : decode cX1_isSecond 6 = .ok (.getfield 37, 3) := dk_180 0 37 (dk_at dksX1_isSecond_0 6 rfl rfl)
theorem dX1_isSecond_9 : decode cX1_isSecond 9 = .ok (.getfield 212, 3) := dk_180 0 212 (dk_at dksX1_isSecond_0 9 rfl rfl)
theorem dX1_isSecond_12 : decode cX1_isSecond 12 = .ok (.iload_n 1, 1) := dk_27 (dk_at dksX1_isSecond_0 12 rfl rfl)
theorem dX1_isSecond_13 : decode cX1_isSecond 13 = .ok (.invokestatic 197, 3) := dk_184 0 197 (dk_at dksX1_isSecond_0 13 rfl rfl)
theorem dX1_isSecond_16 : decode cX1_isSecond 16 = .ok (.ireturn, 1) := dk_172 (dk_at dksX1_isSecond_0 16 rfl rfl)
abbrev cX1_cellOf : ByteArray := prog_1_method_34_code
def yX1_cellOf : MethodName := ⟨RX1, "cellOf", "(II)I"⟩
def dkwX1_cellOf_0 : List UInt8 := [42, 27, 28, 182, 0, 224, 42, 180, 0, 37, 180, 0, 162, 27, 50, 28, 46, 172]
abbrev dktX1_cellOf_0 : List UInt8 := dkwX1_cellOf_0 ++ []
theorem dksX1_cellOf_0 : cX1_cellOf.data.toList.drop 0 = dktX1_cellOf_0 := by decide +kernel
theorem dX1_cellOf_0 : decode cX1_cellOf 0 = .ok (.aload_n 0, 1) := dk_42 (dk_at dksX1_cellOf_0 0 rfl rfl)
theorem dX1_cellOf_1 : decode cX1_cellOf 1 = .ok (.iload_n 1, 1) := dk_27 (dk_at dksX1_cellOf_0 1 rfl rfl)
theorem dX1_cellOf_2 : decode cX1_cellOf 2 = .ok (.iload_n 2, 1) := dk_28 (dk_at dksX1_cellOf_0 2 rfl rfl)
theorem dX1_cellOf_3 : decode cX1_cellOf 3 = .ok (.invokevirtual 224, 3) := dk_182 0 224 (dk_at dksX1_cellOf_0 3 rfl rfl)
theorem dX1_cellOf_6 : decode cX1_cellOf 6 = .ok (.aload_n 0, 1) := dk_42 (dk_at dksX1_cellOf_0 6 rfl rfl)
theorem dX1_cellOf_7 : decode cX1_cellOf 7 = .ok (.getfield 37, 3) := dk_180 0 37 (dk_at dksX1_cellOf_0 7 rfl rfl)
theorem dX1_cellOf_10 : decode cX1_cellOf 10 = .ok (.getfield 162, 3) := dk_180 0 162 (dk_at dksX1_cellOf_0 10 rfl rfl)
theorem dX1_cellOf_13 : decode cX1_cellOf 13 = .ok (.iload_n 1, 1) := dk_27 (dk_at dksX1_cellOf_0 13 rfl rfl)
theorem dX1_cellOf_14 : decode cX1_cellOf 14 = .ok (.aaload, 1) := dk_50 (dk_at dksX1_cellOf_0 14 rfl rfl)
theorem dX1_cellOf_15 : decode cX1_cellOf 15 = .ok (.iload_n 2, 1) := dk_28 (dk_at dksX1_cellOf_0 15 rfl rfl)
theorem dX1_cellOf_16 : decode cX1_cellOf 16 = .ok (.iaload, 1) := dk_46 (dk_at dksX1_cellOf_0 16 rfl rfl)
theorem dX1_cellOf_17 : decode cX1_cellOf 17 = .ok (.ireturn, 1) := dk_172 (dk_at dksX1_cellOf_0 17 rfl rfl)
abbrev cX1_checkPlace : ByteArray := prog_1_method_14_code
def yX1_checkPlace : MethodName := ⟨RX1, "checkPlace", "(II)V"⟩
def dkwX1_checkPlace_0 : List UInt8 := [42, 27, 182, 0, 104, 28, 3, 42, 180, 0, 37, 180, 0, 108, 4, 100, 184, 0, 15, 184, 0, 95, 177]
abbrev dktX1_checkPlace_0 : List UInt8 := dkwX1_checkPlace_0 ++ []
theorem dksX1_checkPlace_0 : cX1_checkPlace.data.toList.drop 0 = dktX1_checkPlace_0 := by decide +kernel
theorem dX1_checkPlace_0 : decode cX1_checkPlace 0 = .ok (.aload_n 0, 1) := dk_42 (dk_at dksX1_checkPlace_0 0 rfl rfl)
theorem dX1_checkPlace_1 : decode cX1_checkPlace 1 = .ok (.iload_n 1, 1) := dk_27 (dk_at dksX1_checkPlace_0 1 rfl rfl)
theorem dX1_checkPlace_2 : decode cX1_checkPlace 2 = .ok (.invokevirtual 104, 3) := dk_182 0 104 (dk_at dksX1_checkPlace_0 2 rfl rfl)
theorem dX1_checkPlace_5 : decode cX1_checkPlace 5 = .ok (.iload_n 2, 1) := dk_28 (dk_at dksX1_checkPlace_0 5 rfl rfl)
theorem dX1_checkPlace_6 : decode cX1_checkPlace 6 = .ok (.iconst 0, 1) := dk_3 (dk_at dksX1_checkPlace_0 6 rfl rfl)
theorem dX1_checkPlace_7 : decode cX1_checkPlace 7 = .ok (.aload_n 0, 1) := dk_42 (dk_at dksX1_checkPlace_0 7 rfl rfl)
theorem dX1_checkPlace_8 : decode cX1_checkPlace 8 = .ok (.getfield 37, 3) := dk_180 0 37 (dk_at dksX1_checkPlace_0 8 rfl rfl)
theorem dX1_checkPlace_11 : decode cX1_checkPlace 11 = .ok (.getfield 108, 3) := dk_180 0 108 (dk_at dksX1_checkPlace_0 11 rfl rfl)
theorem dX1_checkPlace_14 : decode cX1_checkPlace 14 = .ok (.iconst 1, 1) := dk_4 (dk_at dksX1_checkPlace_0 14 rfl rfl)
theorem dX1_checkPlace_15 : decode cX1_checkPlace 15 = .ok (.isub, 1) := dk_100 (dk_at dksX1_checkPlace_0 15 rfl rfl)
theorem dX1_checkPlace_16 : decode cX1_checkPlace 16 = .ok (.invokestatic 15, 3) := dk_184 0 15 (dk_at dksX1_checkPlace_0 16 rfl rfl)
theorem dX1_checkPlace_19 : decode cX1_checkPlace 19 = .ok (.invokestatic 95, 3) := dk_184 0 95 (dk_at dksX1_checkPlace_0 19 rfl rfl)
theorem dX1_checkPlace_22 : decode cX1_checkPlace 22 = .ok (.return_, 1) := dk_177 (dk_at dksX1_checkPlace_0 22 rfl rfl)
abbrev cX1_checkLine : ByteArray := prog_1_method_13_code
def yX1_checkLine : MethodName := ⟨RX1, "checkLine", "(I)V"⟩
def dkwX1_checkLine_0 : List UInt8 := [27, 3, 42, 180, 0, 37, 182, 0, 101, 4, 100, 184, 0, 15, 184, 0, 95, 177]
abbrev dktX1_checkLine_0 : List UInt8 := dkwX1_checkLine_0 ++ []
theorem dksX1_checkLine_0 : cX1_checkLine.data.toList.drop 0 = dktX1_checkLine_0 := by decide +kernel
theorem dX1_checkLine_0 : decode cX1_checkLine 0 = .ok (.iload_n 1, 1) := dk_27 (dk_at dksX1_checkLine_0 0 rfl rfl)
theorem dX1_checkLine_1 : decode cX1_checkLine 1 = .ok (.iconst 0, 1) := dk_3 (dk_at dksX1_checkLine_0 1 rfl rfl)
theorem dX1_checkLine_2 : decode cX1_checkLine 2 = .ok (.aload_n 0, 1) := dk_42 (dk_at dksX1_checkLine_0 2 rfl rfl)
theorem dX1_checkLine_3 : decode cX1_checkLine 3 = .ok (.getfield 37, 3) := dk_180 0 37 (dk_at dksX1_checkLine_0 3 rfl rfl)
theorem dX1_checkLine_6 : decode cX1_checkLine 6 = .ok (.invokevirtual 101, 3) := dk_182 0 101 (dk_at dksX1_checkLine_0 6 rfl rfl)
theorem dX1_checkLine_9 : decode cX1_checkLine 9 = .ok (.iconst 1, 1) := dk_4 (dk_at dksX1_checkLine_0 9 rfl rfl)
theorem dX1_checkLine_10 : decode cX1_checkLine 10 = .ok (.isub, 1) := dk_100 (dk_at dksX1_checkLine_0 10 rfl rfl)
theorem dX1_checkLine_11 : decode cX1_checkLine 11 = .ok (.invokestatic 15, 3) := dk_184 0 15 (dk_at dksX1_checkLine_0 11 rfl rfl)
theorem dX1_checkLine_14 : decode cX1_checkLine 14 = .ok (.invokestatic 95, 3) := dk_184 0 95 (dk_at dksX1_checkLine_0 14 rfl rfl)
theorem dX1_checkLine_17 : decode cX1_checkLine 17 = .ok (.return_, 1) := dk_177 (dk_at dksX1_checkLine_0 17 rfl rfl)
abbrev cX1_put : ByteArray := prog_1_method_36_code
def yX1_put : MethodName := ⟨RX1, "put", "(II)I"⟩
def dkwX1_put_0 : List UInt8 := [42, 27, 28, 4, 182, 0, 233, 172]
abbrev dktX1_put_0 : List UInt8 := dkwX1_put_0 ++ []
theorem dksX1_put_0 : cX1_put.data.toList.drop 0 = dktX1_put_0 := by decide +kernel
theorem dX1_put_0 : decode cX1_put 0 = .ok (.aload_n 0, 1) := dk_42 (dk_at dksX1_put_0 0 rfl rfl)
theorem dX1_put_1 : decode cX1_put 1 = .ok (.iload_n 1, 1) := dk_27 (dk_at dksX1_put_0 1 rfl rfl)
theorem dX1_put_2 : decode cX1_put 2 = .ok (.iload_n 2, 1) := dk_28 (dk_at dksX1_put_0 2 rfl rfl)
theorem dX1_put_3 : decode cX1_put 3 = .ok (.iconst 1, 1) := dk_4 (dk_at dksX1_put_0 3 rfl rfl)
theorem dX1_put_4 : decode cX1_put 4 = .ok (.invokevirtual 233, 3) := dk_182 0 233 (dk_at dksX1_put_0 4 rfl rfl)
theorem dX1_put_7 : decode cX1_put 7 = .ok (.ireturn, 1) := dk_172 (dk_at dksX1_put_0 7 rfl rfl)
abbrev cX1_settle : ByteArray := prog_1_method_35_code
def yX1_settle : MethodName := ⟨RX1, "settle", "(IIZ)I"⟩
def dkwX1_settle_1 : List UInt8 := [54, 4, 42, 180, 0, 42, 180, 0, 159, 27, 4, 28, 120, 79, 21, 4, 172]
abbrev dktX1_settle_1 : List UInt8 := dkwX1_settle_1 ++ []
def dkwX1_settle_0 : List UInt8 := [42, 27, 182, 0, 227, 42, 28, 182, 0, 230, 42, 29, 182, 0, 115, 42, 180, 0, 42, 180, 0, 159, 27, 46]
abbrev dktX1_settle_0 : List UInt8 := dkwX1_settle_0 ++ dktX1_settle_1
theorem dksX1_settle_0 : cX1_settle.data.toList.drop 0 = dktX1_settle_0 := by decide +kernel
theorem dksX1_settle_1 : cX1_settle.data.toList.drop 24 = dktX1_settle_1 := dk_seg dksX1_settle_0 24 rfl rfl
theorem dX1_settle_0 : decode cX1_settle 0 = .ok (.aload_n 0, 1) := dk_42 (dk_at dksX1_settle_0 0 rfl rfl)
theorem dX1_settle_1 : decode cX1_settle 1 = .ok (.iload_n 1, 1) := dk_27 (dk_at dksX1_settle_0 1 rfl rfl)
theorem dX1_settle_2 : decode cX1_settle 2 = .ok (.invokevirtual 227, 3) := dk_182 0 227 (dk_at dksX1_settle_0 2 rfl rfl)
theorem dX1_settle_5 : decode cX1_settle 5 = .ok (.aload_n 0, 1) := dk_42 (dk_at dksX1_settle_0 5 rfl rfl)
theorem dX1_settle_6 : decode cX1_settle 6 = .ok (.iload_n 2, 1) := dk_28 (dk_at dksX1_settle_0 6 rfl rfl)
theorem dX1_settle_7 : decode cX1_settle 7 = .ok (.invokevirtual 230, 3) := dk_182 0 230 (dk_at dksX1_settle_0 7 rfl rfl)
theorem dX1_settle_10 : decode cX1_settle 10 = .ok (.aload_n 0, 1) := dk_42 (dk_at dksX1_settle_0 10 rfl rfl)
theorem dX1_settle_11 : decode cX1_settle 11 = .ok (.iload_n 3, 1) := dk_29 (dk_at dksX1_settle_0 11 rfl rfl)
theorem dX1_settle_12 : decode cX1_settle 12 = .ok (.invokevirtual 115, 3) := dk_182 0 115 (dk_at dksX1_settle_0 12 rfl rfl)
theorem dX1_settle_15 : decode cX1_settle 15 = .ok (.aload_n 0, 1) := dk_42 (dk_at dksX1_settle_0 15 rfl rfl)
theorem dX1_settle_16 : decode cX1_settle 16 = .ok (.getfield 42, 3) := dk_180 0 42 (dk_at dksX1_settle_0 16 rfl rfl)
theorem dX1_settle_19 : decode cX1_settle 19 = .ok (.getfield 159, 3) := dk_180 0 159 (dk_at dksX1_settle_0 19 rfl rfl)
theorem dX1_settle_22 : decode cX1_settle 22 = .ok (.iload_n 1, 1) := dk_27 (dk_at dksX1_settle_0 22 rfl rfl)
theorem dX1_settle_23 : decode cX1_settle 23 = .ok (.iaload, 1) := dk_46 (dk_at dksX1_settle_0 23 rfl rfl)
theorem dX1_settle_24 : decode cX1_settle 24 = .ok (.istore 4, 2) := dk_54 4 (dk_at dksX1_settle_1 0 rfl rfl)
theorem dX1_settle_26 : decode cX1_settle 26 = .ok (.aload_n 0, 1) := dk_42 (dk_at dksX1_settle_1 2 rfl rfl)
theorem dX1_settle_27 : decode cX1_settle 27 = .ok (.getfield 42, 3) := dk_180 0 42 (dk_at dksX1_settle_1 3 rfl rfl)
theorem dX1_settle_30 : decode cX1_settle 30 = .ok (.getfield 159, 3) := dk_180 0 159 (dk_at dksX1_settle_1 6 rfl rfl)
theorem dX1_settle_33 : decode cX1_settle 33 = .ok (.iload_n 1, 1) := dk_27 (dk_at dksX1_settle_1 9 rfl rfl)
theorem dX1_settle_34 : decode cX1_settle 34 = .ok (.iconst 1, 1) := dk_4 (dk_at dksX1_settle_1 10 rfl rfl)
theorem dX1_settle_35 : decode cX1_settle 35 = .ok (.iload_n 2, 1) := dk_28 (dk_at dksX1_settle_1 11 rfl rfl)
theorem dX1_settle_36 : decode cX1_settle 36 = .ok (.ishl, 1) := dk_120 (dk_at dksX1_settle_1 12 rfl rfl)
theorem dX1_settle_37 : decode cX1_settle 37 = .ok (.iastore, 1) := dk_79 (dk_at dksX1_settle_1 13 rfl rfl)
theorem dX1_settle_38 : decode cX1_settle 38 = .ok (.iload 4, 2) := dk_21 4 (dk_at dksX1_settle_1 14 rfl rfl)
theorem dX1_settle_40 : decode cX1_settle 40 = .ok (.ireturn, 1) := dk_172 (dk_at dksX1_settle_1 16 rfl rfl)
abbrev cX1_checkCell : ByteArray := prog_1_method_12_code
def yX1_checkCell : MethodName := ⟨RX1, "checkCell", "(I)V"⟩
def dkwX1_checkCell_0 : List UInt8 := [27, 3, 42, 180, 0, 37, 182, 0, 98, 4, 100, 184, 0, 15, 184, 0, 95, 177]
abbrev dktX1_checkCell_0 : List UInt8 := dkwX1_checkCell_0 ++ []
theorem dksX1_checkCell_0 : cX1_checkCell.data.toList.drop 0 = dktX1_checkCell_0 := by decide +kernel
theorem dX1_checkCell_0 : decode cX1_checkCell 0 = .ok (.iload_n 1, 1) := dk_27 (dk_at dksX1_checkCell_0 0 rfl rfl)
theorem dX1_checkCell_1 : decode cX1_checkCell 1 = .ok (.iconst 0, 1) := dk_3 (dk_at dksX1_checkCell_0 1 rfl rfl)
theorem dX1_checkCell_2 : decode cX1_checkCell 2 = .ok (.aload_n 0, 1) := dk_42 (dk_at dksX1_checkCell_0 2 rfl rfl)
theorem dX1_checkCell_3 : decode cX1_checkCell 3 = .ok (.getfield 37, 3) := dk_180 0 37 (dk_at dksX1_checkCell_0 3 rfl rfl)
theorem dX1_checkCell_6 : decode cX1_checkCell 6 = .ok (.invokevirtual 98, 3) := dk_182 0 98 (dk_at dksX1_checkCell_0 6 rfl rfl)
theorem dX1_checkCell_9 : decode cX1_checkCell 9 = .ok (.iconst 1, 1) := dk_4 (dk_at dksX1_checkCell_0 9 rfl rfl)
theorem dX1_checkCell_10 : decode cX1_checkCell 10 = .ok (.isub, 1) := dk_100 (dk_at dksX1_checkCell_0 10 rfl rfl)
theorem dX1_checkCell_11 : decode cX1_checkCell 11 = .ok (.invokestatic 15, 3) := dk_184 0 15 (dk_at dksX1_checkCell_0 11 rfl rfl)
theorem dX1_checkCell_14 : decode cX1_checkCell 14 = .ok (.invokestatic 95, 3) := dk_184 0 95 (dk_at dksX1_checkCell_0 14 rfl rfl)
theorem dX1_checkCell_17 : decode cX1_checkCell 17 = .ok (.return_, 1) := dk_177 (dk_at dksX1_checkCell_0 17 rfl rfl)
abbrev cX1_checkThing : ByteArray := prog_1_method_16_code
def yX1_checkThing : MethodName := ⟨RX1, "checkThing", "(I)V"⟩
def dkwX1_checkThing_0 : List UInt8 := [27, 3, 42, 180, 0, 37, 180, 0, 112, 184, 0, 15, 184, 0, 19, 177]
abbrev dktX1_checkThing_0 : List UInt8 := dkwX1_checkThing_0 ++ []
theorem dksX1_checkThing_0 : cX1_checkThing.data.toList.drop 0 = dktX1_checkThing_0 := by decide +kernel
theorem dX1_checkThing_0 : decode cX1_checkThing 0 = .ok (.iload_n 1, 1) := dk_27 (dk_at dksX1_checkThing_0 0 rfl rfl)
theorem dX1_checkThing_1 : decode cX1_checkThing 1 = .ok (.iconst 0, 1) := dk_3 (dk_at dksX1_checkThing_0 1 rfl rfl)
theorem dX1_checkThing_2 : decode cX1_checkThing 2 = .ok (.aload_n 0, 1) := dk_42 (dk_at dksX1_checkThing_0 2 rfl rfl)
theorem dX1_checkThing_3 : decode cX1_checkThing 3 = .ok (.getfield 37, 3) := dk_180 0 37 (dk_at dksX1_checkThing_0 3 rfl rfl)
theorem dX1_checkThing_6 : decode cX1_checkThing 6 = .ok (.getfield 112, 3) := dk_180 0 112 (dk_at dksX1_checkThing_0 6 rfl rfl)
theorem dX1_checkThing_9 : decode cX1_checkThing 9 = .ok (.invokestatic 15, 3) := dk_184 0 15 (dk_at dksX1_checkThing_0 9 rfl rfl)
theorem dX1_checkThing_12 : decode cX1_checkThing 12 = .ok (.invokestatic 19, 3) := dk_184 0 19 (dk_at dksX1_checkThing_0 12 rfl rfl)
theorem dX1_checkThing_15 : decode cX1_checkThing 15 = .ok (.return_, 1) := dk_177 (dk_at dksX1_checkThing_0 15 rfl rfl)
abbrev cX1_crossOut : ByteArray := prog_1_method_38_code
def yX1_crossOut : MethodName := ⟨RX1, "crossOut", "(II)I"⟩
def dkwX1_crossOut_0 : List UInt8 := [42, 27, 28, 4, 182, 0, 236, 172]
abbrev dktX1_crossOut_0 : List UInt8 := dkwX1_crossOut_0 ++ []
theorem dksX1_crossOut_0 : cX1_crossOut.data.toList.drop 0 = dktX1_crossOut_0 := by decide +kernel
theorem dX1_crossOut_0 : decode cX1_crossOut 0 = .ok (.aload_n 0, 1) := dk_42 (dk_at dksX1_crossOut_0 0 rfl rfl)
theorem dX1_crossOut_1 : decode cX1_crossOut 1 = .ok (.iload_n 1, 1) := dk_27 (dk_at dksX1_crossOut_0 1 rfl rfl)
theorem dX1_crossOut_2 : decode cX1_crossOut 2 = .ok (.iload_n 2, 1) := dk_28 (dk_at dksX1_crossOut_0 2 rfl rfl)
theorem dX1_crossOut_3 : decode cX1_crossOut 3 = .ok (.iconst 1, 1) := dk_4 (dk_at dksX1_crossOut_0 3 rfl rfl)
theorem dX1_crossOut_4 : decode cX1_crossOut 4 = .ok (.invokevirtual 236, 3) := dk_182 0 236 (dk_at dksX1_crossOut_0 4 rfl rfl)
theorem dX1_crossOut_7 : decode cX1_crossOut 7 = .ok (.ireturn, 1) := dk_172 (dk_at dksX1_crossOut_0 7 rfl rfl)
abbrev cX1_strike : ByteArray := prog_1_method_37_code
def yX1_strike : MethodName := ⟨RX1, "strike", "(IIZ)I"⟩
def dkwX1_strike_2 : List UInt8 := [79, 42, 180, 0, 42, 180, 0, 159, 27, 46, 172]
abbrev dktX1_strike_2 : List UInt8 := dkwX1_strike_2 ++ []
def dkwX1_strike_1 : List UInt8 := [184, 0, 149, 42, 29, 182, 0, 115, 42, 180, 0, 42, 180, 0, 159, 27, 92, 46, 4, 28, 120, 2, 130, 126]
abbrev dktX1_strike_1 : List UInt8 := dkwX1_strike_1 ++ dktX1_strike_2
def dkwX1_strike_0 : List UInt8 := [42, 27, 182, 0, 227, 42, 28, 182, 0, 230, 42, 180, 0, 42, 180, 0, 159, 27, 46, 28, 184, 0, 197]
abbrev dktX1_strike_0 : List UInt8 := dkwX1_strike_0 ++ dktX1_strike_1
theorem dksX1_strike_0 : cX1_strike.data.toList.drop 0 = dktX1_strike_0 := by decide +kernel
theorem dksX1_strike_1 : cX1_strike.data.toList.drop 23 = dktX1_strike_1 := dk_seg dksX1_strike_0 23 rfl rfl
theorem dksX1_strike_2 : cX1_strike.data.toList.drop 47 = dktX1_strike_2 := dk_seg dksX1_strike_1 24 rfl rfl
theorem dX1_strike_0 : decode cX1_strike 0 = .ok (.aload_n 0, 1) := dk_42 (dk_at dksX1_strike_0 0 rfl rfl)
theorem dX1_strike_1 : decode cX1_strike 1 = .ok (.iload_n 1, 1) := dk_27 (dk_at dksX1_strike_0 1 rfl rfl)
theorem dX1_strike_2 : decode cX1_strike 2 = .ok (.invokevirtual 227, 3) := dk_182 0 227 (dk_at dksX1_strike_0 2 rfl rfl)
theorem dX1_strike_5 : decode cX1_strike 5 = .ok (.aload_n 0, 1) := dk_42 (dk_at dksX1_strike_0 5 rfl rfl)
theorem dX1_strike_6 : decode cX1_strike 6 = .ok (.iload_n 2, 1) := dk_28 (dk_at dksX1_strike_0 6 rfl rfl)
theorem dX1_strike_7 : decode cX1_strike 7 = .ok (.invokevirtual 230, 3) := dk_182 0 230 (dk_at dksX1_strike_0 7 rfl rfl)
theorem dX1_strike_10 : decode cX1_strike 10 = .ok (.aload_n 0, 1) := dk_42 (dk_at dksX1_strike_0 10 rfl rfl)
theorem dX1_strike_11 : decode cX1_strike 11 = .ok (.getfield 42, 3) := dk_180 0 42 (dk_at dksX1_strike_0 11 rfl rfl)
theorem dX1_strike_14 : decode cX1_strike 14 = .ok (.getfield 159, 3) := dk_180 0 159 (dk_at dksX1_strike_0 14 rfl rfl)
theorem dX1_strike_17 : decode cX1_strike 17 = .ok (.iload_n 1, 1) := dk_27 (dk_at dksX1_strike_0 17 rfl rfl)
theorem dX1_strike_18 : decode cX1_strike 18 = .ok (.iaload, 1) := dk_46 (dk_at dksX1_strike_0 18 rfl rfl)
theorem dX1_strike_19 : decode cX1_strike 19 = .ok (.iload_n 2, 1) := dk_28 (dk_at dksX1_strike_0 19 rfl rfl)
theorem dX1_strike_20 : decode cX1_strike 20 = .ok (.invokestatic 197, 3) := dk_184 0 197 (dk_at dksX1_strike_0 20 rfl rfl)
theorem dX1_strike_23 : decode cX1_strike 23 = .ok (.invokestatic 149, 3) := dk_184 0 149 (dk_at dksX1_strike_1 0 rfl rfl)
theorem dX1_strike_26 : decode cX1_strike 26 = .ok (.aload_n 0, 1) := dk_42 (dk_at dksX1_strike_1 3 rfl rfl)
theorem dX1_strike_27 : decode cX1_strike 27 = .ok (.iload_n 3, 1) := dk_29 (dk_at dksX1_strike_1 4 rfl rfl)
theorem dX1_strike_28 : decode cX1_strike 28 = .ok (.invokevirtual 115, 3) := dk_182 0 115 (dk_at dksX1_strike_1 5 rfl rfl)
theorem dX1_strike_31 : decode cX1_strike 31 = .ok (.aload_n 0, 1) := dk_42 (dk_at dksX1_strike_1 8 rfl rfl)
theorem dX1_strike_32 : decode cX1_strike 32 = .ok (.getfield 42, 3) := dk_180 0 42 (dk_at dksX1_strike_1 9 rfl rfl)
theorem dX1_strike_35 : decode cX1_strike 35 = .ok (.getfield 159, 3) := dk_180 0 159 (dk_at dksX1_strike_1 12 rfl rfl)
theorem dX1_strike_38 : decode cX1_strike 38 = .ok (.iload_n 1, 1) := dk_27 (dk_at dksX1_strike_1 15 rfl rfl)
theorem dX1_strike_39 : decode cX1_strike 39 = .ok (.dup2, 1) := dk_92 (dk_at dksX1_strike_1 16 rfl rfl)
theorem dX1_strike_40 : decode cX1_strike 40 = .ok (.iaload, 1) := dk_46 (dk_at dksX1_strike_1 17 rfl rfl)
theorem dX1_strike_41 : decode cX1_strike 41 = .ok (.iconst 1, 1) := dk_4 (dk_at dksX1_strike_1 18 rfl rfl)
theorem dX1_strike_42 : decode cX1_strike 42 = .ok (.iload_n 2, 1) := dk_28 (dk_at dksX1_strike_1 19 rfl rfl)
theorem dX1_strike_43 : decode cX1_strike 43 = .ok (.ishl, 1) := dk_120 (dk_at dksX1_strike_1 20 rfl rfl)
theorem dX1_strike_44 : decode cX1_strike 44 = .ok (.iconst (-1), 1) := dk_2 (dk_at dksX1_strike_1 21 rfl rfl)
theorem dX1_strike_45 : decode cX1_strike 45 = .ok (.ixor, 1) := dk_130 (dk_at dksX1_strike_1 22 rfl rfl)
theorem dX1_strike_46 : decode cX1_strike 46 = .ok (.iand, 1) := dk_126 (dk_at dksX1_strike_1 23 rfl rfl)
theorem dX1_strike_47 : decode cX1_strike 47 = .ok (.iastore, 1) := dk_79 (dk_at dksX1_strike_2 0 rfl rfl)
theorem dX1_strike_48 : decode cX1_strike 48 = .ok (.aload_n 0, 1) := dk_42 (dk_at dksX1_strike_2 1 rfl rfl)
theorem dX1_strike_49 : decode cX1_strike 49 = .ok (.getfield 42, 3) := dk_180 0 42 (dk_at dksX1_strike_2 2 rfl rfl)
theorem dX1_strike_52 : decode cX1_strike 52 = .ok (.getfield 159, 3) := dk_180 0 159 (dk_at dksX1_strike_2 5 rfl rfl)
theorem dX1_strike_55 : decode cX1_strike 55 = .ok (.iload_n 1, 1) := dk_27 (dk_at dksX1_strike_2 8 rfl rfl)
theorem dX1_strike_56 : decode cX1_strike 56 = .ok (.iaload, 1) := dk_46 (dk_at dksX1_strike_2 9 rfl rfl)
theorem dX1_strike_57 : decode cX1_strike 57 = .ok (.ireturn, 1) := dk_172 (dk_at dksX1_strike_2 10 rfl rfl)
abbrev cX1_thingsOf : ByteArray := prog_1_method_40_code
def yX1_thingsOf : MethodName := ⟨RX1, "thingsOf", "(I)I"⟩
def dkwX1_thingsOf_0 : List UInt8 := [42, 27, 182, 0, 227, 42, 180, 0, 42, 180, 0, 159, 27, 46, 172]
abbrev dktX1_thingsOf_0 : List UInt8 := dkwX1_thingsOf_0 ++ []
theorem dksX1_thingsOf_0 : cX1_thingsOf.data.toList.drop 0 = dktX1_thingsOf_0 := by decide +kernel
theorem dX1_thingsOf_0 : decode cX1_thingsOf 0 = .ok (.aload_n 0, 1) := dk_42 (dk_at dksX1_thingsOf_0 0 rfl rfl)
theorem dX1_thingsOf_1 : decode cX1_thingsOf 1 = .ok (.iload_n 1, 1) := dk_27 (dk_at dksX1_thingsOf_0 1 rfl rfl)
theorem dX1_thingsOf_2 : decode cX1_thingsOf 2 = .ok (.invokevirtual 227, 3) := dk_182 0 227 (dk_at dksX1_thingsOf_0 2 rfl rfl)
theorem dX1_thingsOf_5 : decode cX1_thingsOf 5 = .ok (.aload_n 0, 1) := dk_42 (dk_at dksX1_thingsOf_0 5 rfl rfl)
theorem dX1_thingsOf_6 : decode cX1_thingsOf 6 = .ok (.getfield 42, 3) := dk_180 0 42 (dk_at dksX1_thingsOf_0 6 rfl rfl)
theorem dX1_thingsOf_9 : decode cX1_thingsOf 9 = .ok (.getfield 159, 3) := dk_180 0 159 (dk_at dksX1_thingsOf_0 9 rfl rfl)
theorem dX1_thingsOf_12 : decode cX1_thingsOf 12 = .ok (.iload_n 1, 1) := dk_27 (dk_at dksX1_thingsOf_0 12 rfl rfl)
theorem dX1_thingsOf_13 : decode cX1_thingsOf 13 = .ok (.iaload, 1) := dk_46 (dk_at dksX1_thingsOf_0 13 rfl rfl)
theorem dX1_thingsOf_14 : decode cX1_thingsOf 14 = .ok (.ireturn, 1) := dk_172 (dk_at dksX1_thingsOf_0 14 rfl rfl)
abbrev cX1_cellsWith : ByteArray := prog_1_method_41_code
def yX1_cellsWith : MethodName := ⟨RX1, "cellsWith", "(I)J"⟩
def dkwX1_cellsWith_2 : List UInt8 := [129, 65, 132, 4, 1, 167, 255, 213, 32, 173]
abbrev dktX1_cellsWith_2 : List UInt8 := dkwX1_cellsWith_2 ++ []
def dkwX1_cellsWith_1 : List UInt8 := [180, 0, 42, 180, 0, 159, 21, 4, 46, 27, 184, 0, 197, 153, 0, 10, 10, 21, 4, 121, 167, 0, 4, 9]
abbrev dktX1_cellsWith_1 : List UInt8 := dkwX1_cellsWith_1 ++ dktX1_cellsWith_2
def dkwX1_cellsWith_0 : List UInt8 := [42, 27, 182, 0, 230, 9, 65, 3, 54, 4, 21, 4, 42, 180, 0, 37, 182, 0, 98, 162, 0, 37, 32, 42]
abbrev dktX1_cellsWith_0 : List UInt8 := dkwX1_cellsWith_0 ++ dktX1_cellsWith_1
theorem dksX1_cellsWith_0 : cX1_cellsWith.data.toList.drop 0 = dktX1_cellsWith_0 := by decide +kernel
theorem dksX1_cellsWith_1 : cX1_cellsWith.data.toList.drop 24 = dktX1_cellsWith_1 := dk_seg dksX1_cellsWith_0 24 rfl rfl
theorem dksX1_cellsWith_2 : cX1_cellsWith.data.toList.drop 48 = dktX1_cellsWith_2 := dk_seg dksX1_cellsWith_1 24 rfl rfl
theorem dX1_cellsWith_0 : decode cX1_cellsWith 0 = .ok (.aload_n 0, 1) := dk_42 (dk_at dksX1_cellsWith_0 0 rfl rfl)
theorem dX1_cellsWith_1 : decode cX1_cellsWith 1 = .ok (.iload_n 1, 1) := dk_27 (dk_at dksX1_cellsWith_0 1 rfl rfl)
theorem dX1_cellsWith_2 : decode cX1_cellsWith 2 = .ok (.invokevirtual 230, 3) := dk_182 0 230 (dk_at dksX1_cellsWith_0 2 rfl rfl)
theorem dX1_cellsWith_5 : decode cX1_cellsWith 5 = .ok (.lconst 0, 1) := dk_9 (dk_at dksX1_cellsWith_0 5 rfl rfl)
theorem dX1_cellsWith_6 : decode cX1_cellsWith 6 = .ok (.lstore_n 2, 1) := dk_65 (dk_at dksX1_cellsWith_0 6 rfl rfl)
theorem dX1_cellsWith_7 : decode cX1_cellsWith 7 = .ok (.iconst 0, 1) := dk_3 (dk_at dksX1_cellsWith_0 7 rfl rfl)
theorem dX1_cellsWith_8 : decode cX1_cellsWith 8 = .ok (.istore 4, 2) := dk_54 4 (dk_at dksX1_cellsWith_0 8 rfl rfl)
theorem dX1_cellsWith_10 : decode cX1_cellsWith 10 = .ok (.iload 4, 2) := dk_21 4 (dk_at dksX1_cellsWith_0 10 rfl rfl)
theorem dX1_cellsWith_12 : decode cX1_cellsWith 12 = .ok (.aload_n 0, 1) := dk_42 (dk_at dksX1_cellsWith_0 12 rfl rfl)
theorem dX1_cellsWith_13 : decode cX1_cellsWith 13 = .ok (.getfield 37, 3) := dk_180 0 37 (dk_at dksX1_cellsWith_0 13 rfl rfl)
theorem dX1_cellsWith_16 : decode cX1_cellsWith 16 = .ok (.invokevirtual 98, 3) := dk_182 0 98 (dk_at dksX1_cellsWith_0 16 rfl rfl)
theorem dX1_cellsWith_19 : decode cX1_cellsWith 19 = .ok (.if_icmp .ge 37, 3) := dk_162 0 37 (dk_at dksX1_cellsWith_0 19 rfl rfl)
theorem dX1_cellsWith_22 : decode cX1_cellsWith 22 = .ok (.lload_n 2, 1) := dk_32 (dk_at dksX1_cellsWith_0 22 rfl rfl)
theorem dX1_cellsWith_23 : decode cX1_cellsWith 23 = .ok (.aload_n 0, 1) := dk_42 (dk_at dksX1_cellsWith_0 23 rfl rfl)
theorem dX1_cellsWith_24 : decode cX1_cellsWith 24 = .ok (.getfield 42, 3) := dk_180 0 42 (dk_at dksX1_cellsWith_1 0 rfl rfl)
theorem dX1_cellsWith_27 : decode cX1_cellsWith 27 = .ok (.getfield 159, 3) := dk_180 0 159 (dk_at dksX1_cellsWith_1 3 rfl rfl)
theorem dX1_cellsWith_30 : decode cX1_cellsWith 30 = .ok (.iload 4, 2) := dk_21 4 (dk_at dksX1_cellsWith_1 6 rfl rfl)
theorem dX1_cellsWith_32 : decode cX1_cellsWith 32 = .ok (.iaload, 1) := dk_46 (dk_at dksX1_cellsWith_1 8 rfl rfl)
theorem dX1_cellsWith_33 : decode cX1_cellsWith 33 = .ok (.iload_n 1, 1) := dk_27 (dk_at dksX1_cellsWith_1 9 rfl rfl)
theorem dX1_cellsWith_34 : decode cX1_cellsWith 34 = .ok (.invokestatic 197, 3) := dk_184 0 197 (dk_at dksX1_cellsWith_1 10 rfl rfl)
theorem dX1_cellsWith_37 : decode cX1_cellsWith 37 = .ok (.ifCond .eq 10, 3) := dk_153 0 10 (dk_at dksX1_cellsWith_1 13 rfl rfl)
theorem dX1_cellsWith_40 : decode cX1_cellsWith 40 = .ok (.lconst 1, 1) := dk_10 (dk_at dksX1_cellsWith_1 16 rfl rfl)
theorem dX1_cellsWith_41 : decode cX1_cellsWith 41 = .ok (.iload 4, 2) := dk_21 4 (dk_at dksX1_cellsWith_1 17 rfl rfl)
theorem dX1_cellsWith_43 : decode cX1_cellsWith 43 = .ok (.lshl, 1) := dk_121 (dk_at dksX1_cellsWith_1 19 rfl rfl)
theorem dX1_cellsWith_44 : decode cX1_cellsWith 44 = .ok (.goto 4, 3) := dk_167 0 4 (dk_at dksX1_cellsWith_1 20 rfl rfl)
theorem dX1_cellsWith_47 : decode cX1_cellsWith 47 = .ok (.lconst 0, 1) := dk_9 (dk_at dksX1_cellsWith_1 23 rfl rfl)
theorem dX1_cellsWith_48 : decode cX1_cellsWith 48 = .ok (.lor, 1) := dk_129 (dk_at dksX1_cellsWith_2 0 rfl rfl)
theorem dX1_cellsWith_49 : decode cX1_cellsWith 49 = .ok (.lstore_n 2, 1) := dk_65 (dk_at dksX1_cellsWith_2 1 rfl rfl)
theorem dX1_cellsWith_50 : decode cX1_cellsWith 50 = .ok (.iinc 4 1, 3) := dk_132 4 1 (dk_at dksX1_cellsWith_2 2 rfl rfl)
theorem dX1_cellsWith_53 : decode cX1_cellsWith 53 = .ok (.goto (-43), 3) := dk_167 255 213 (dk_at dksX1_cellsWith_2 5 rfl rfl)
theorem dX1_cellsWith_56 : decode cX1_cellsWith 56 = .ok (.lload_n 2, 1) := dk_32 (dk_at dksX1_cellsWith_2 8 rfl rfl)
theorem dX1_cellsWith_57 : decode cX1_cellsWith 57 = .ok (.lreturn, 1) := dk_173 (dk_at dksX1_cellsWith_2 9 rfl rfl)
abbrev cX1_arrangements : ByteArray := prog_1_method_45_code
def yX1_arrangements : MethodName := ⟨RX1, "arrangements", "(I)I"⟩
def dkwX1_arrangements_0 : List UInt8 := [42, 27, 182, 0, 104, 42, 180, 0, 42, 27, 182, 0, 249, 172]
abbrev dktX1_arrangements_0 : List UInt8 := dkwX1_arrangements_0 ++ []
theorem dksX1_arrangements_0 : cX1_arrangements.data.toList.drop 0 = dktX1_arrangements_0 := by decide +kernel
theorem dX1_arrangements_0 : decode cX1_arrangements 0 = .ok (.aload_n 0, 1) := dk_42 (dk_at dksX1_arrangements_0 0 rfl rfl)
theorem dX1_arrangements_1 : decode cX1_arrangements 1 = .ok (.iload_n 1, 1) := dk_27 (dk_at dksX1_arrangements_0 1 rfl rfl)
theorem dX1_arrangements_2 : decode cX1_arrangements 2 = .ok (.invokevirtual 104, 3) := dk_182 0 104 (dk_at dksX1_arrangements_0 2 rfl rfl)
theorem dX1_arrangements_5 : decode cX1_arrangements 5 = .ok (.aload_n 0, 1) := dk_42 (dk_at dksX1_arrangements_0 5 rfl rfl)
theorem dX1_arrangements_6 : decode cX1_arrangements 6 = .ok (.getfield 42, 3) := dk_180 0 42 (dk_at dksX1_arrangements_0 6 rfl rfl)
theorem dX1_arrangements_9 : decode cX1_arrangements 9 = .ok (.iload_n 1, 1) := dk_27 (dk_at dksX1_arrangements_0 9 rfl rfl)
theorem dX1_arrangements_10 : decode cX1_arrangements 10 = .ok (.invokevirtual 249, 3) := dk_182 0 249 (dk_at dksX1_arrangements_0 10 rfl rfl)
theorem dX1_arrangements_13 : decode cX1_arrangements 13 = .ok (.ireturn, 1) := dk_172 (dk_at dksX1_arrangements_0 13 rfl rfl)
abbrev cX1_arrangementsByCells : ByteArray := prog_1_method_46_code
def yX1_arrangementsByCells : MethodName := ⟨RX1, "arrangementsByCells", "(I)I"⟩
def dkwX1_arrangementsByCells_1 : List UInt8 := [172]
abbrev dktX1_arrangementsByCells_1 : List UInt8 := dkwX1_arrangementsByCells_1 ++ []
def dkwX1_arrangementsByCells_0 : List UInt8 := [42, 27, 182, 0, 104, 42, 180, 0, 42, 27, 3, 3, 42, 180, 0, 37, 180, 0, 108, 188, 10, 182, 0, 252]
abbrev dktX1_arrangementsByCells_0 : List UInt8 := dkwX1_arrangementsByCells_0 ++ dktX1_arrangementsByCells_1
theorem dksX1_arrangementsByCells_0 : cX1_arrangementsByCells.data.toList.drop 0 = dktX1_arrangementsByCells_0 := by decide +kernel
theorem dksX1_arrangementsByCells_1 : cX1_arrangementsByCells.data.toList.drop 24 = dktX1_arrangementsByCells_1 := dk_seg dksX1_arrangementsByCells_0 24 rfl rfl
theorem dX1_arrangementsByCells_0 : decode cX1_arrangementsByCells 0 = .ok (.aload_n 0, 1) := dk_42 (dk_at dksX1_arrangementsByCells_0 0 rfl rfl)
theorem dX1_arrangementsByCells_1 : decode cX1_arrangementsByCells 1 = .ok (.iload_n 1, 1) := dk_27 (dk_at dksX1_arrangementsByCells_0 1 rfl rfl)
theorem dX1_arrangementsByCells_2 : decode cX1_arrangementsByCells 2 = .ok (.invokevirtual 104, 3) := dk_182 0 104 (dk_at dksX1_arrangementsByCells_0 2 rfl rfl)
theorem dX1_arrangementsByCells_5 : decode cX1_arrangementsByCells 5 = .ok (.aload_n 0, 1) := dk_42 (dk_at dksX1_arrangementsByCells_0 5 rfl rfl)
theorem dX1_arrangementsByCells_6 : decode cX1_arrangementsByCells 6 = .ok (.getfield 42, 3) := dk_180 0 42 (dk_at dksX1_arrangementsByCells_0 6 rfl rfl)
theorem dX1_arrangementsByCells_9 : decode cX1_arrangementsByCells 9 = .ok (.iload_n 1, 1) := dk_27 (dk_at dksX1_arrangementsByCells_0 9 rfl rfl)
theorem dX1_arrangementsByCells_10 : decode cX1_arrangementsByCells 10 = .ok (.iconst 0, 1) := dk_3 (dk_at dksX1_arrangementsByCells_0 10 rfl rfl)
theorem dX1_arrangementsByCells_11 : decode cX1_arrangementsByCells 11 = .ok (.iconst 0, 1) := dk_3 (dk_at dksX1_arrangementsByCells_0 11 rfl rfl)
theorem dX1_arrangementsByCells_12 : decode cX1_arrangementsByCells 12 = .ok (.aload_n 0, 1) := dk_42 (dk_at dksX1_arrangementsByCells_0 12 rfl rfl)
theorem dX1_arrangementsByCells_13 : decode cX1_arrangementsByCells 13 = .ok (.getfield 37, 3) := dk_180 0 37 (dk_at dksX1_arrangementsByCells_0 13 rfl rfl)
theorem dX1_arrangementsByCells_16 : decode cX1_arrangementsByCells 16 = .ok (.getfield 108, 3) := dk_180 0 108 (dk_at dksX1_arrangementsByCells_0 16 rfl rfl)
theorem dX1_arrangementsByCells_19 : decode cX1_arrangementsByCells 19 = .ok (.newarray .int, 2) := dk_188_10 (dk_at dksX1_arrangementsByCells_0 19 rfl rfl)
theorem dX1_arrangementsByCells_21 : decode cX1_arrangementsByCells 21 = .ok (.invokevirtual 252, 3) := dk_182 0 252 (dk_at dksX1_arrangementsByCells_0 21 rfl rfl)
theorem dX1_arrangementsByCells_24 : decode cX1_arrangementsByCells 24 = .ok (.ireturn, 1) := dk_172 (dk_at dksX1_arrangementsByCells_1 0 rfl rfl)
abbrev cX1_thingsIn : ByteArray := prog_1_method_47_code
def yX1_thingsIn : MethodName := ⟨RX1, "thingsIn", "(II)I"⟩
def dkwX1_thingsIn_0 : List UInt8 := [42, 27, 28, 182, 0, 224, 42, 180, 0, 42, 27, 28, 182, 1, 0, 172]
abbrev dktX1_thingsIn_0 : List UInt8 := dkwX1_thingsIn_0 ++ []
theorem dksX1_thingsIn_0 : cX1_thingsIn.data.toList.drop 0 = dktX1_thingsIn_0 := by decide +kernel
theorem dX1_thingsIn_0 : decode cX1_thingsIn 0 = .ok (.aload_n 0, 1) := dk_42 (dk_at dksX1_thingsIn_0 0 rfl rfl)
theorem dX1_thingsIn_1 : decode cX1_thingsIn 1 = .ok (.iload_n 1, 1) := dk_27 (dk_at dksX1_thingsIn_0 1 rfl rfl)
theorem dX1_thingsIn_2 : decode cX1_thingsIn 2 = .ok (.iload_n 2, 1) := dk_28 (dk_at dksX1_thingsIn_0 2 rfl rfl)
theorem dX1_thingsIn_3 : decode cX1_thingsIn 3 = .ok (.invokevirtual 224, 3) := dk_182 0 224 (dk_at dksX1_thingsIn_0 3 rfl rfl)
theorem dX1_thingsIn_6 : decode cX1_thingsIn 6 = .ok (.aload_n 0, 1) := dk_42 (dk_at dksX1_thingsIn_0 6 rfl rfl)
theorem dX1_thingsIn_7 : decode cX1_thingsIn 7 = .ok (.getfield 42, 3) := dk_180 0 42 (dk_at dksX1_thingsIn_0 7 rfl rfl)
theorem dX1_thingsIn_10 : decode cX1_thingsIn 10 = .ok (.iload_n 1, 1) := dk_27 (dk_at dksX1_thingsIn_0 10 rfl rfl)
theorem dX1_thingsIn_11 : decode cX1_thingsIn 11 = .ok (.iload_n 2, 1) := dk_28 (dk_at dksX1_thingsIn_0 11 rfl rfl)
theorem dX1_thingsIn_12 : decode cX1_thingsIn 12 = .ok (.invokevirtual 256, 3) := dk_182 1 0 (dk_at dksX1_thingsIn_0 12 rfl rfl)
theorem dX1_thingsIn_15 : decode cX1_thingsIn 15 = .ok (.ireturn, 1) := dk_172 (dk_at dksX1_thingsIn_0 15 rfl rfl)
abbrev cX1_seenFrom : ByteArray := prog_1_method_49_code
def yX1_seenFrom : MethodName := ⟨RX1, "seenFrom", "(II)I"⟩
def dkwX1_seenFrom_2 : List UInt8 := [180, 0, 37, 27, 182, 0, 190, 45, 184, 0, 193, 172]
abbrev dktX1_seenFrom_2 : List UInt8 := dkwX1_seenFrom_2 ++ []
def dkwX1_seenFrom_1 : List UInt8 := [182, 0, 179, 182, 0, 182, 78, 45, 199, 0, 7, 2, 167, 0, 23, 42, 180, 0, 37, 180, 0, 112, 28, 42]
abbrev dktX1_seenFrom_1 : List UInt8 := dkwX1_seenFrom_1 ++ dktX1_seenFrom_2
def dkwX1_seenFrom_0 : List UInt8 := [42, 27, 182, 0, 132, 28, 155, 0, 7, 4, 167, 0, 4, 3, 184, 0, 95, 42, 42, 180, 0, 37, 27]
abbrev dktX1_seenFrom_0 : List UInt8 := dkwX1_seenFrom_0 ++ dktX1_seenFrom_1
theorem dksX1_seenFrom_0 : cX1_seenFrom.data.toList.drop 0 = dktX1_seenFrom_0 := by decide +kernel
theorem dksX1_seenFrom_1 : cX1_seenFrom.data.toList.drop 23 = dktX1_seenFrom_1 := dk_seg dksX1_seenFrom_0 23 rfl rfl
theorem dksX1_seenFrom_2 : cX1_seenFrom.data.toList.drop 47 = dktX1_seenFrom_2 := dk_seg dksX1_seenFrom_1 24 rfl rfl
theorem dX1_seenFrom_0 : decode cX1_seenFrom 0 = .ok (.aload_n 0, 1) := dk_42 (dk_at dksX1_seenFrom_0 0 rfl rfl)
theorem dX1_seenFrom_1 : decode cX1_seenFrom 1 = .ok (.iload_n 1, 1) := dk_27 (dk_at dksX1_seenFrom_0 1 rfl rfl)
theorem dX1_seenFrom_2 : decode cX1_seenFrom 2 = .ok (.invokevirtual 132, 3) := dk_182 0 132 (dk_at dksX1_seenFrom_0 2 rfl rfl)
theorem dX1_seenFrom_5 : decode cX1_seenFrom 5 = .ok (.iload_n 2, 1) := dk_28 (dk_at dksX1_seenFrom_0 5 rfl rfl)
theorem dX1_seenFrom_6 : decode cX1_seenFrom 6 = .ok (.ifCond .lt 7, 3) := dk_155 0 7 (dk_at dksX1_seenFrom_0 6 rfl rfl)
theorem dX1_seenFrom_9 : decode cX1_seenFrom 9 = .ok (.iconst 1, 1) := dk_4 (dk_at dksX1_seenFrom_0 9 rfl rfl)
theorem dX1_seenFrom_10 : decode cX1_seenFrom 10 = .ok (.goto 4, 3) := dk_167 0 4 (dk_at dksX1_seenFrom_0 10 rfl rfl)
theorem dX1_seenFrom_13 : decode cX1_seenFrom 13 = .ok (.iconst 0, 1) := dk_3 (dk_at dksX1_seenFrom_0 13 rfl rfl)
theorem dX1_seenFrom_14 : decode cX1_seenFrom 14 = .ok (.invokestatic 95, 3) := dk_184 0 95 (dk_at dksX1_seenFrom_0 14 rfl rfl)
theorem dX1_seenFrom_17 : decode cX1_seenFrom 17 = .ok (.aload_n 0, 1) := dk_42 (dk_at dksX1_seenFrom_0 17 rfl rfl)
theorem dX1_seenFrom_18 : decode cX1_seenFrom 18 = .ok (.aload_n 0, 1) := dk_42 (dk_at dksX1_seenFrom_0 18 rfl rfl)
theorem dX1_seenFrom_19 : decode cX1_seenFrom 19 = .ok (.getfield 37, 3) := dk_180 0 37 (dk_at dksX1_seenFrom_0 19 rfl rfl)
theorem dX1_seenFrom_22 : decode cX1_seenFrom 22 = .ok (.iload_n 1, 1) := dk_27 (dk_at dksX1_seenFrom_0 22 rfl rfl)
theorem dX1_seenFrom_23 : decode cX1_seenFrom 23 = .ok (.invokevirtual 179, 3) := dk_182 0 179 (dk_at dksX1_seenFrom_1 0 rfl rfl)
theorem dX1_seenFrom_26 : decode cX1_seenFrom 26 = .ok (.invokevirtual 182, 3) := dk_182 0 182 (dk_at dksX1_seenFrom_1 3 rfl rfl)
theorem dX1_seenFrom_29 : decode cX1_seenFrom 29 = .ok (.astore_n 3, 1) := dk_78 (dk_at dksX1_seenFrom_1 6 rfl rfl)
theorem dX1_seenFrom_30 : decode cX1_seenFrom 30 = .ok (.aload_n 3, 1) := dk_45 (dk_at dksX1_seenFrom_1 7 rfl rfl)
theorem dX1_seenFrom_31 : decode cX1_seenFrom 31 = .ok (.ifnonnull 7, 3) := dk_199 0 7 (dk_at dksX1_seenFrom_1 8 rfl rfl)
theorem dX1_seenFrom_34 : decode cX1_seenFrom 34 = .ok (.iconst (-1), 1) := dk_2 (dk_at dksX1_seenFrom_1 11 rfl rfl)
theorem dX1_seenFrom_35 : decode cX1_seenFrom 35 = .ok (.goto 23, 3) := dk_167 0 23 (dk_at dksX1_seenFrom_1 12 rfl rfl)
theorem dX1_seenFrom_38 : decode cX1_seenFrom 38 = .ok (.aload_n 0, 1) := dk_42 (dk_at dksX1_seenFrom_1 15 rfl rfl)
theorem dX1_seenFrom_39 : decode cX1_seenFrom 39 = .ok (.getfield 37, 3) := dk_180 0 37 (dk_at dksX1_seenFrom_1 16 rfl rfl)
theorem dX1_seenFrom_42 : decode cX1_seenFrom 42 = .ok (.getfield 112, 3) := dk_180 0 112 (dk_at dksX1_seenFrom_1 19 rfl rfl)
theorem dX1_seenFrom_45 : decode cX1_seenFrom 45 = .ok (.iload_n 2, 1) := dk_28 (dk_at dksX1_seenFrom_1 22 rfl rfl)
theorem dX1_seenFrom_46 : decode cX1_seenFrom 46 = .ok (.aload_n 0, 1) := dk_42 (dk_at dksX1_seenFrom_1 23 rfl rfl)
theorem dX1_seenFrom_47 : decode cX1_seenFrom 47 = .ok (.getfield 37, 3) := dk_180 0 37 (dk_at dksX1_seenFrom_2 0 rfl rfl)
theorem dX1_seenFrom_50 : decode cX1_seenFrom 50 = .ok (.iload_n 1, 1) := dk_27 (dk_at dksX1_seenFrom_2 3 rfl rfl)
theorem dX1_seenFrom_51 : decode cX1_seenFrom 51 = .ok (.invokevirtual 190, 3) := dk_182 0 190 (dk_at dksX1_seenFrom_2 4 rfl rfl)
theorem dX1_seenFrom_54 : decode cX1_seenFrom 54 = .ok (.aload_n 3, 1) := dk_45 (dk_at dksX1_seenFrom_2 7 rfl rfl)
theorem dX1_seenFrom_55 : decode cX1_seenFrom 55 = .ok (.invokestatic 193, 3) := dk_184 0 193 (dk_at dksX1_seenFrom_2 8 rfl rfl)
theorem dX1_seenFrom_58 : decode cX1_seenFrom 58 = .ok (.ireturn, 1) := dk_172 (dk_at dksX1_seenFrom_2 11 rfl rfl)
abbrev cX1_reasonFor : ByteArray := prog_1_method_50_code
def yX1_reasonFor : MethodName := ⟨RX1, "reasonFor", "(II)I"⟩
def dkwX1_reasonFor_3 : List UInt8 := [167, 0, 4, 3, 172]
abbrev dktX1_reasonFor_3 : List UInt8 := dkwX1_reasonFor_3 ++ []
def dkwX1_reasonFor_2 : List UInt8 := [4, 167, 0, 4, 3, 62, 29, 153, 0, 19, 42, 180, 0, 42, 27, 28, 42, 180, 0, 48, 182, 1, 6]
abbrev dktX1_reasonFor_2 : List UInt8 := dkwX1_reasonFor_2 ++ dktX1_reasonFor_3
def dkwX1_reasonFor_1 : List UInt8 := [153, 0, 28, 42, 180, 0, 42, 27, 182, 0, 239, 154, 0, 17, 42, 180, 0, 42, 182, 0, 242, 154, 0, 7]
abbrev dktX1_reasonFor_1 : List UInt8 := dkwX1_reasonFor_1 ++ dktX1_reasonFor_2
def dkwX1_reasonFor_0 : List UInt8 := [42, 27, 182, 0, 227, 42, 28, 182, 0, 230, 42, 180, 0, 42, 180, 0, 159, 27, 46, 28, 184, 0, 197]
abbrev dktX1_reasonFor_0 : List UInt8 := dkwX1_reasonFor_0 ++ dktX1_reasonFor_1
theorem dksX1_reasonFor_0 : cX1_reasonFor.data.toList.drop 0 = dktX1_reasonFor_0 := by decide +kernel
theorem dksX1_reasonFor_1 : cX1_reasonFor.data.toList.drop 23 = dktX1_reasonFor_1 := dk_seg dksX1_reasonFor_0 23 rfl rfl
theorem dksX1_reasonFor_2 : cX1_reasonFor.data.toList.drop 47 = dktX1_reasonFor_2 := dk_seg dksX1_reasonFor_1 24 rfl rfl
theorem dksX1_reasonFor_3 : cX1_reasonFor.data.toList.drop 70 = dktX1_reasonFor_3 := dk_seg dksX1_reasonFor_2 23 rfl rfl
theorem dX1_reasonFor_0 : decode cX1_reasonFor 0 = .ok (.aload_n 0, 1) := dk_42 (dk_at dksX1_reasonFor_0 0 rfl rfl)
theorem dX1_reasonFor_1 : decode cX1_reasonFor 1 = .ok (.iload_n 1, 1) := dk_27 (dk_at dksX1_reasonFor_0 1 rfl rfl)
theorem dX1_reasonFor_2 : decode cX1_reasonFor 2 = .ok (.invokevirtual 227, 3) := dk_182 0 227 (dk_at dksX1_reasonFor_0 2 rfl rfl)
theorem dX1_reasonFor_5 : decode cX1_reasonFor 5 = .ok (.aload_n 0, 1) := dk_42 (dk_at dksX1_reasonFor_0 5 rfl rfl)
theorem dX1_reasonFor_6 : decode cX1_reasonFor 6 = .ok (.iload_n 2, 1) := dk_28 (dk_at dksX1_reasonFor_0 6 rfl rfl)
theorem dX1_reasonFor_7 : decode cX1_reasonFor 7 = .ok (.invokevirtual 230, 3) := dk_182 0 230 (dk_at dksX1_reasonFor_0 7 rfl rfl)
theorem dX1_reasonFor_10 : decode cX1_reasonFor 10 = .ok (.aload_n 0, 1) := dk_42 (dk_at dksX1_reasonFor_0 10 rfl rfl)
theorem dX1_reasonFor_11 : decode cX1_reasonFor 11 = .ok (.getfield 42, 3) := dk_180 0 42 (dk_at dksX1_reasonFor_0 11 rfl rfl)
theorem dX1_reasonFor_14 : decode cX1_reasonFor 14 = .ok (.getfield 159, 3) := dk_180 0 159 (dk_at dksX1_reasonFor_0 14 rfl rfl)
theorem dX1_reasonFor_17 : decode cX1_reasonFor 17 = .ok (.iload_n 1, 1) := dk_27 (dk_at dksX1_reasonFor_0 17 rfl rfl)
theorem dX1_reasonFor_18 : decode cX1_reasonFor 18 = .ok (.iaload, 1) := dk_46 (dk_at dksX1_reasonFor_0 18 rfl rfl)
theorem dX1_reasonFor_19 : decode cX1_reasonFor 19 = .ok (.iload_n 2, 1) := dk_28 (dk_at dksX1_reasonFor_0 19 rfl rfl)
theorem dX1_reasonFor_20 : decode cX1_reasonFor 20 = .ok (.invokestatic 197, 3) := dk_184 0 197 (dk_at dksX1_reasonFor_0 20 rfl rfl)
theorem dX1_reasonFor_23 : decode cX1_reasonFor 23 = .ok (.ifCond .eq 28, 3) := dk_153 0 28 (dk_at dksX1_reasonFor_1 0 rfl rfl)
theorem dX1_reasonFor_26 : decode cX1_reasonFor 26 = .ok (.aload_n 0, 1) := dk_42 (dk_at dksX1_reasonFor_1 3 rfl rfl)
theorem dX1_reasonFor_27 : decode cX1_reasonFor 27 = .ok (.getfield 42, 3) := dk_180 0 42 (dk_at dksX1_reasonFor_1 4 rfl rfl)
theorem dX1_reasonFor_30 : decode cX1_reasonFor 30 = .ok (.iload_n 1, 1) := dk_27 (dk_at dksX1_reasonFor_1 7 rfl rfl)
theorem dX1_reasonFor_31 : decode cX1_reasonFor 31 = .ok (.invokevirtual 239, 3) := dk_182 0 239 (dk_at dksX1_reasonFor_1 8 rfl rfl)
theorem dX1_reasonFor_34 : decode cX1_reasonFor 34 = .ok (.ifCond .ne 17, 3) := dk_154 0 17 (dk_at dksX1_reasonFor_1 11 rfl rfl)
theorem dX1_reasonFor_37 : decode cX1_reasonFor 37 = .ok (.aload_n 0, 1) := dk_42 (dk_at dksX1_reasonFor_1 14 rfl rfl)
theorem dX1_reasonFor_38 : decode cX1_reasonFor 38 = .ok (.getfield 42, 3) := dk_180 0 42 (dk_at dksX1_reasonFor_1 15 rfl rfl)
theorem dX1_reasonFor_41 : decode cX1_reasonFor 41 = .ok (.invokevirtual 242, 3) := dk_182 0 242 (dk_at dksX1_reasonFor_1 18 rfl rfl)
theorem dX1_reasonFor_44 : decode cX1_reasonFor 44 = .ok (.ifCond .ne 7, 3) := dk_154 0 7 (dk_at dksX1_reasonFor_1 21 rfl rfl)
theorem dX1_reasonFor_47 : decode cX1_reasonFor 47 = .ok (.iconst 1, 1) := dk_4 (dk_at dksX1_reasonFor_2 0 rfl rfl)
theorem dX1_reasonFor_48 : decode cX1_reasonFor 48 = .ok (.goto 4, 3) := dk_167 0 4 (dk_at dksX1_reasonFor_2 1 rfl rfl)
theorem dX1_reasonFor_51 : decode cX1_reasonFor 51 = .ok (.iconst 0, 1) := dk_3 (dk_at dksX1_reasonFor_2 4 rfl rfl)
theorem dX1_reasonFor_52 : decode cX1_reasonFor 52 = .ok (.istore_n 3, 1) := dk_62 (dk_at dksX1_reasonFor_2 5 rfl rfl)
theorem dX1_reasonFor_53 : decode cX1_reasonFor 53 = .ok (.iload_n 3, 1) := dk_29 (dk_at dksX1_reasonFor_2 6 rfl rfl)
theorem dX1_reasonFor_54 : decode cX1_reasonFor 54 = .ok (.ifCond .eq 19, 3) := dk_153 0 19 (dk_at dksX1_reasonFor_2 7 rfl rfl)
theorem dX1_reasonFor_57 : decode cX1_reasonFor 57 = .ok (.aload_n 0, 1) := dk_42 (dk_at dksX1_reasonFor_2 10 rfl rfl)
theorem dX1_reasonFor_58 : decode cX1_reasonFor 58 = .ok (.getfield 42, 3) := dk_180 0 42 (dk_at dksX1_reasonFor_2 11 rfl rfl)
theorem dX1_reasonFor_61 : decode cX1_reasonFor 61 = .ok (.iload_n 1, 1) := dk_27 (dk_at dksX1_reasonFor_2 14 rfl rfl)
theorem dX1_reasonFor_62 : decode cX1_reasonFor 62 = .ok (.iload_n 2, 1) := dk_28 (dk_at dksX1_reasonFor_2 15 rfl rfl)
theorem dX1_reasonFor_63 : decode cX1_reasonFor 63 = .ok (.aload_n 0, 1) := dk_42 (dk_at dksX1_reasonFor_2 16 rfl rfl)
theorem dX1_reasonFor_64 : decode cX1_reasonFor 64 = .ok (.getfield 48, 3) := dk_180 0 48 (dk_at dksX1_reasonFor_2 17 rfl rfl)
theorem dX1_reasonFor_67 : decode cX1_reasonFor 67 = .ok (.invokevirtual 262, 3) := dk_182 1 6 (dk_at dksX1_reasonFor_2 20 rfl rfl)
theorem dX1_reasonFor_70 : decode cX1_reasonFor 70 = .ok (.goto 4, 3) := dk_167 0 4 (dk_at dksX1_reasonFor_3 0 rfl rfl)
theorem dX1_reasonFor_73 : decode cX1_reasonFor 73 = .ok (.iconst 0, 1) := dk_3 (dk_at dksX1_reasonFor_3 3 rfl rfl)
theorem dX1_reasonFor_74 : decode cX1_reasonFor 74 = .ok (.ireturn, 1) := dk_172 (dk_at dksX1_reasonFor_3 4 rfl rfl)
abbrev cX1_step : ByteArray := prog_1_method_52_code
def yX1_step : MethodName := ⟨RX1, "step", "()I"⟩
def dkwX1_step_1 : List UInt8 := [184, 0, 149, 42, 4, 182, 0, 115, 42, 180, 0, 42, 27, 182, 1, 14, 172]
abbrev dktX1_step_1 : List UInt8 := dkwX1_step_1 ++ []
def dkwX1_step_0 : List UInt8 := [42, 180, 0, 42, 16, 6, 42, 180, 0, 48, 182, 1, 10, 60, 27, 2, 159, 0, 7, 4, 167, 0, 4, 3]
abbrev dktX1_step_0 : List UInt8 := dkwX1_step_0 ++ dktX1_step_1
theorem dksX1_step_0 : cX1_step.data.toList.drop 0 = dktX1_step_0 := by decide +kernel
theorem dksX1_step_1 : cX1_step.data.toList.drop 24 = dktX1_step_1 := dk_seg dksX1_step_0 24 rfl rfl
theorem dX1_step_0 : decode cX1_step 0 = .ok (.aload_n 0, 1) := dk_42 (dk_at dksX1_step_0 0 rfl rfl)
theorem dX1_step_1 : decode cX1_step 1 = .ok (.getfield 42, 3) := dk_180 0 42 (dk_at dksX1_step_0 1 rfl rfl)
theorem dX1_step_4 : decode cX1_step 4 = .ok (.bipush 6, 2) := dk_16 6 (dk_at dksX1_step_0 4 rfl rfl)
theorem dX1_step_6 : decode cX1_step 6 = .ok (.aload_n 0, 1) := dk_42 (dk_at dksX1_step_0 6 rfl rfl)
theorem dX1_step_7 : decode cX1_step 7 = .ok (.getfield 48, 3) := dk_180 0 48 (dk_at dksX1_step_0 7 rfl rfl)
theorem dX1_step_10 : decode cX1_step 10 = .ok (.invokevirtual 266, 3) := dk_182 1 10 (dk_at dksX1_step_0 10 rfl rfl)
theorem dX1_step_13 : decode cX1_step 13 = .ok (.istore_n 1, 1) := dk_60 (dk_at dksX1_step_0 13 rfl rfl)
theorem dX1_step_14 : decode cX1_step 14 = .ok (.iload_n 1, 1) := dk_27 (dk_at dksX1_step_0 14 rfl rfl)
theorem dX1_step_15 : decode cX1_step 15 = .ok (.iconst (-1), 1) := dk_2 (dk_at dksX1_step_0 15 rfl rfl)
theorem dX1_step_16 : decode cX1_step 16 = .ok (.if_icmp .eq 7, 3) := dk_159 0 7 (dk_at dksX1_step_0 16 rfl rfl)
theorem dX1_step_19 : decode cX1_step 19 = .ok (.iconst 1, 1) := dk_4 (dk_at dksX1_step_0 19 rfl rfl)
theorem dX1_step_20 : decode cX1_step 20 = .ok (.goto 4, 3) := dk_167 0 4 (dk_at dksX1_step_0 20 rfl rfl)
theorem dX1_step_23 : decode cX1_step 23 = .ok (.iconst 0, 1) := dk_3 (dk_at dksX1_step_0 23 rfl rfl)
theorem dX1_step_24 : decode cX1_step 24 = .ok (.invokestatic 149, 3) := dk_184 0 149 (dk_at dksX1_step_1 0 rfl rfl)
theorem dX1_step_27 : decode cX1_step 27 = .ok (.aload_n 0, 1) := dk_42 (dk_at dksX1_step_1 3 rfl rfl)
theorem dX1_step_28 : decode cX1_step 28 = .ok (.iconst 1, 1) := dk_4 (dk_at dksX1_step_1 4 rfl rfl)
theorem dX1_step_29 : decode cX1_step 29 = .ok (.invokevirtual 115, 3) := dk_182 0 115 (dk_at dksX1_step_1 5 rfl rfl)
theorem dX1_step_32 : decode cX1_step 32 = .ok (.aload_n 0, 1) := dk_42 (dk_at dksX1_step_1 8 rfl rfl)
theorem dX1_step_33 : decode cX1_step 33 = .ok (.getfield 42, 3) := dk_180 0 42 (dk_at dksX1_step_1 9 rfl rfl)
theorem dX1_step_36 : decode cX1_step 36 = .ok (.iload_n 1, 1) := dk_27 (dk_at dksX1_step_1 12 rfl rfl)
theorem dX1_step_37 : decode cX1_step 37 = .ok (.invokevirtual 270, 3) := dk_182 1 14 (dk_at dksX1_step_1 13 rfl rfl)
theorem dX1_step_40 : decode cX1_step 40 = .ok (.ireturn, 1) := dk_172 (dk_at dksX1_step_1 16 rfl rfl)
abbrev cX1_stepAll : ByteArray := prog_1_method_53_code
def yX1_stepAll : MethodName := ⟨RX1, "stepAll", "(I)I"⟩
def dkwX1_stepAll_0 : List UInt8 := [27, 184, 1, 17, 42, 4, 182, 0, 115, 42, 180, 0, 42, 27, 42, 180, 0, 48, 182, 1, 20, 172]
abbrev dktX1_stepAll_0 : List UInt8 := dkwX1_stepAll_0 ++ []
theorem dksX1_stepAll_0 : cX1_stepAll.data.toList.drop 0 = dktX1_stepAll_0 := by decide +kernel
theorem dX1_stepAll_0 : decode cX1_stepAll 0 = .ok (.iload_n 1, 1) := dk_27 (dk_at dksX1_stepAll_0 0 rfl rfl)
theorem dX1_stepAll_1 : decode cX1_stepAll 1 = .ok (.invokestatic 273, 3) := dk_184 1 17 (dk_at dksX1_stepAll_0 1 rfl rfl)
theorem dX1_stepAll_4 : decode cX1_stepAll 4 = .ok (.aload_n 0, 1) := dk_42 (dk_at dksX1_stepAll_0 4 rfl rfl)
theorem dX1_stepAll_5 : decode cX1_stepAll 5 = .ok (.iconst 1, 1) := dk_4 (dk_at dksX1_stepAll_0 5 rfl rfl)
theorem dX1_stepAll_6 : decode cX1_stepAll 6 = .ok (.invokevirtual 115, 3) := dk_182 0 115 (dk_at dksX1_stepAll_0 6 rfl rfl)
theorem dX1_stepAll_9 : decode cX1_stepAll 9 = .ok (.aload_n 0, 1) := dk_42 (dk_at dksX1_stepAll_0 9 rfl rfl)
theorem dX1_stepAll_10 : decode cX1_stepAll 10 = .ok (.getfield 42, 3) := dk_180 0 42 (dk_at dksX1_stepAll_0 10 rfl rfl)
theorem dX1_stepAll_13 : decode cX1_stepAll 13 = .ok (.iload_n 1, 1) := dk_27 (dk_at dksX1_stepAll_0 13 rfl rfl)
theorem dX1_stepAll_14 : decode cX1_stepAll 14 = .ok (.aload_n 0, 1) := dk_42 (dk_at dksX1_stepAll_0 14 rfl rfl)
theorem dX1_stepAll_15 : decode cX1_stepAll 15 = .ok (.getfield 48, 3) := dk_180 0 48 (dk_at dksX1_stepAll_0 15 rfl rfl)
theorem dX1_stepAll_18 : decode cX1_stepAll 18 = .ok (.invokevirtual 276, 3) := dk_182 1 20 (dk_at dksX1_stepAll_0 18 rfl rfl)
theorem dX1_stepAll_21 : decode cX1_stepAll 21 = .ok (.ireturn, 1) := dk_172 (dk_at dksX1_stepAll_0 21 rfl rfl)
abbrev cX1_checkReason : ByteArray := prog_1_method_7_code
def yX1_checkReason : MethodName := ⟨RX1, "checkReason", "(I)V"⟩
def dkwX1_checkReason_0 : List UInt8 := [26, 4, 16, 6, 184, 0, 15, 184, 0, 19, 177]
abbrev dktX1_checkReason_0 : List UInt8 := dkwX1_checkReason_0 ++ []
theorem dksX1_checkReason_0 : cX1_checkReason.data.toList.drop 0 = dktX1_checkReason_0 := by decide +kernel
theorem dX1_checkReason_0 : decode cX1_checkReason 0 = .ok (.iload_n 0, 1) := dk_26 (dk_at dksX1_checkReason_0 0 rfl rfl)
theorem dX1_checkReason_1 : decode cX1_checkReason 1 = .ok (.iconst 1, 1) := dk_4 (dk_at dksX1_checkReason_0 1 rfl rfl)
theorem dX1_checkReason_2 : decode cX1_checkReason 2 = .ok (.bipush 6, 2) := dk_16 6 (dk_at dksX1_checkReason_0 2 rfl rfl)
theorem dX1_checkReason_4 : decode cX1_checkReason 4 = .ok (.invokestatic 15, 3) := dk_184 0 15 (dk_at dksX1_checkReason_0 4 rfl rfl)
theorem dX1_checkReason_7 : decode cX1_checkReason 7 = .ok (.invokestatic 19, 3) := dk_184 0 19 (dk_at dksX1_checkReason_0 7 rfl rfl)
theorem dX1_checkReason_10 : decode cX1_checkReason 10 = .ok (.return_, 1) := dk_177 (dk_at dksX1_checkReason_0 10 rfl rfl)
abbrev cX1_stepsUpTo : ByteArray := prog_1_method_54_code
def yX1_stepsUpTo : MethodName := ⟨RX1, "stepsUpTo", "(I)I"⟩
def dkwX1_stepsUpTo_1 : List UInt8 := [182, 1, 20, 172]
abbrev dktX1_stepsUpTo_1 : List UInt8 := dkwX1_stepsUpTo_1 ++ []
def dkwX1_stepsUpTo_0 : List UInt8 := [27, 184, 1, 17, 42, 180, 0, 51, 42, 180, 0, 42, 182, 0, 205, 42, 180, 0, 51, 27, 42, 180, 0, 48]
abbrev dktX1_stepsUpTo_0 : List UInt8 := dkwX1_stepsUpTo_0 ++ dktX1_stepsUpTo_1
theorem dksX1_stepsUpTo_0 : cX1_stepsUpTo.data.toList.drop 0 = dktX1_stepsUpTo_0 := by decide +kernel
theorem dksX1_stepsUpTo_1 : cX1_stepsUpTo.data.toList.drop 24 = dktX1_stepsUpTo_1 := dk_seg dksX1_stepsUpTo_0 24 rfl rfl
theorem dX1_stepsUpTo_0 : decode cX1_stepsUpTo 0 = .ok (.iload_n 1, 1) := dk_27 (dk_at dksX1_stepsUpTo_0 0 rfl rfl)
theorem dX1_stepsUpTo_1 : decode cX1_stepsUpTo 1 = .ok (.invokestatic 273, 3) := dk_184 1 17 (dk_at dksX1_stepsUpTo_0 1 rfl rfl)
theorem dX1_stepsUpTo_4 : decode cX1_stepsUpTo 4 = .ok (.aload_n 0, 1) := dk_42 (dk_at dksX1_stepsUpTo_0 4 rfl rfl)
theorem dX1_stepsUpTo_5 : decode cX1_stepsUpTo 5 = .ok (.getfield 51, 3) := dk_180 0 51 (dk_at dksX1_stepsUpTo_0 5 rfl rfl)
theorem dX1_stepsUpTo_8 : decode cX1_stepsUpTo 8 = .ok (.aload_n 0, 1) := dk_42 (dk_at dksX1_stepsUpTo_0 8 rfl rfl)
theorem dX1_stepsUpTo_9 : decode cX1_stepsUpTo 9 = .ok (.getfield 42, 3) := dk_180 0 42 (dk_at dksX1_stepsUpTo_0 9 rfl rfl)
theorem dX1_stepsUpTo_12 : decode cX1_stepsUpTo 12 = .ok (.invokevirtual 205, 3) := dk_182 0 205 (dk_at dksX1_stepsUpTo_0 12 rfl rfl)
theorem dX1_stepsUpTo_15 : decode cX1_stepsUpTo 15 = .ok (.aload_n 0, 1) := dk_42 (dk_at dksX1_stepsUpTo_0 15 rfl rfl)
theorem dX1_stepsUpTo_16 : decode cX1_stepsUpTo 16 = .ok (.getfield 51, 3) := dk_180 0 51 (dk_at dksX1_stepsUpTo_0 16 rfl rfl)
theorem dX1_stepsUpTo_19 : decode cX1_stepsUpTo 19 = .ok (.iload_n 1, 1) := dk_27 (dk_at dksX1_stepsUpTo_0 19 rfl rfl)
theorem dX1_stepsUpTo_20 : decode cX1_stepsUpTo 20 = .ok (.aload_n 0, 1) := dk_42 (dk_at dksX1_stepsUpTo_0 20 rfl rfl)
theorem dX1_stepsUpTo_21 : decode cX1_stepsUpTo 21 = .ok (.getfield 48, 3) := dk_180 0 48 (dk_at dksX1_stepsUpTo_0 21 rfl rfl)
theorem dX1_stepsUpTo_24 : decode cX1_stepsUpTo 24 = .ok (.invokevirtual 276, 3) := dk_182 1 20 (dk_at dksX1_stepsUpTo_1 0 rfl rfl)
theorem dX1_stepsUpTo_27 : decode cX1_stepsUpTo 27 = .ok (.ireturn, 1) := dk_172 (dk_at dksX1_stepsUpTo_1 3 rfl rfl)
abbrev cX1_firstThing : ByteArray := prog_1_method_59_code
def yX1_firstThing : MethodName := ⟨RX1, "firstThing", "(I)I"⟩
def dkwX1_firstThing_1 : List UInt8 := [180, 1, 38, 27, 46, 184, 0, 170, 172]
abbrev dktX1_firstThing_1 : List UInt8 := dkwX1_firstThing_1 ++ []
def dkwX1_firstThing_0 : List UInt8 := [42, 27, 182, 0, 227, 42, 4, 4, 182, 1, 27, 77, 44, 180, 1, 30, 154, 0, 7, 2, 167, 0, 12, 44]
abbrev dktX1_firstThing_0 : List UInt8 := dkwX1_firstThing_0 ++ dktX1_firstThing_1
theorem dksX1_firstThing_0 : cX1_firstThing.data.toList.drop 0 = dktX1_firstThing_0 := by decide +kernel
theorem dksX1_firstThing_1 : cX1_firstThing.data.toList.drop 24 = dktX1_firstThing_1 := dk_seg dksX1_firstThing_0 24 rfl rfl
theorem dX1_firstThing_0 : decode cX1_firstThing 0 = .ok (.aload_n 0, 1) := dk_42 (dk_at dksX1_firstThing_0 0 rfl rfl)
theorem dX1_firstThing_1 : decode cX1_firstThing 1 = .ok (.iload_n 1, 1) := dk_27 (dk_at dksX1_firstThing_0 1 rfl rfl)
theorem dX1_firstThing_2 : decode cX1_firstThing 2 = .ok (.invokevirtual 227, 3) := dk_182 0 227 (dk_at dksX1_firstThing_0 2 rfl rfl)
theorem dX1_firstThing_5 : decode cX1_firstThing 5 = .ok (.aload_n 0, 1) := dk_42 (dk_at dksX1_firstThing_0 5 rfl rfl)
theorem dX1_firstThing_6 : decode cX1_firstThing 6 = .ok (.iconst 1, 1) := dk_4 (dk_at dksX1_firstThing_0 6 rfl rfl)
theorem dX1_firstThing_7 : decode cX1_firstThing 7 = .ok (.iconst 1, 1) := dk_4 (dk_at dksX1_firstThing_0 7 rfl rfl)
theorem dX1_firstThing_8 : decode cX1_firstThing 8 = .ok (.invokevirtual 283, 3) := dk_182 1 27 (dk_at dksX1_firstThing_0 8 rfl rfl)
theorem dX1_firstThing_11 : decode cX1_firstThing 11 = .ok (.astore_n 2, 1) := dk_77 (dk_at dksX1_firstThing_0 11 rfl rfl)
theorem dX1_firstThing_12 : decode cX1_firstThing 12 = .ok (.aload_n 2, 1) := dk_44 (dk_at dksX1_firstThing_0 12 rfl rfl)
theorem dX1_firstThing_13 : decode cX1_firstThing 13 = .ok (.getfield 286, 3) := dk_180 1 30 (dk_at dksX1_firstThing_0 13 rfl rfl)
theorem dX1_firstThing_16 : decode cX1_firstThing 16 = .ok (.ifCond .ne 7, 3) := dk_154 0 7 (dk_at dksX1_firstThing_0 16 rfl rfl)
theorem dX1_firstThing_19 : decode cX1_firstThing 19 = .ok (.iconst (-1), 1) := dk_2 (dk_at dksX1_firstThing_0 19 rfl rfl)
theorem dX1_firstThing_20 : decode cX1_firstThing 20 = .ok (.goto 12, 3) := dk_167 0 12 (dk_at dksX1_firstThing_0 20 rfl rfl)
theorem dX1_firstThing_23 : decode cX1_firstThing 23 = .ok (.aload_n 2, 1) := dk_44 (dk_at dksX1_firstThing_0 23 rfl rfl)
theorem dX1_firstThing_24 : decode cX1_firstThing 24 = .ok (.getfield 294, 3) := dk_180 1 38 (dk_at dksX1_firstThing_1 0 rfl rfl)
theorem dX1_firstThing_27 : decode cX1_firstThing 27 = .ok (.iload_n 1, 1) := dk_27 (dk_at dksX1_firstThing_1 3 rfl rfl)
theorem dX1_firstThing_28 : decode cX1_firstThing 28 = .ok (.iaload, 1) := dk_46 (dk_at dksX1_firstThing_1 4 rfl rfl)
theorem dX1_firstThing_29 : decode cX1_firstThing 29 = .ok (.invokestatic 170, 3) := dk_184 0 170 (dk_at dksX1_firstThing_1 5 rfl rfl)
theorem dX1_firstThing_32 : decode cX1_firstThing 32 = .ok (.ireturn, 1) := dk_172 (dk_at dksX1_firstThing_1 8 rfl rfl)
abbrev cX1_isNeeded : ByteArray := prog_1_method_61_code
def yX1_isNeeded : MethodName := ⟨RX1, "isNeeded", "(I)Z"⟩
def dkwX1_isNeeded_4 : List UInt8 := [27, 28, 29, 182, 0, 138, 54, 9, 25, 8, 191]
abbrev dktX1_isNeeded_4 : List UInt8 := dkwX1_isNeeded_4 ++ []
def dkwX1_isNeeded_3 : List UInt8 := [3, 54, 6, 42, 180, 0, 37, 27, 28, 29, 182, 0, 138, 54, 7, 21, 6, 172, 58, 8, 42, 180, 0, 37]
abbrev dktX1_isNeeded_3 : List UInt8 := dkwX1_isNeeded_3 ++ dktX1_isNeeded_4
def dkwX1_isNeeded_2 : List UInt8 := [180, 0, 37, 27, 2, 3, 182, 0, 138, 54, 5, 42, 182, 1, 44, 21, 4, 164, 0, 7, 4, 167, 0, 4]
abbrev dktX1_isNeeded_2 : List UInt8 := dkwX1_isNeeded_2 ++ dktX1_isNeeded_3
def dkwX1_isNeeded_1 : List UInt8 := [3, 184, 0, 149, 42, 180, 0, 37, 180, 0, 212, 27, 184, 0, 197, 62, 42, 182, 1, 44, 54, 4, 42]
abbrev dktX1_isNeeded_1 : List UInt8 := dkwX1_isNeeded_1 ++ dktX1_isNeeded_2
def dkwX1_isNeeded_0 : List UInt8 := [42, 27, 182, 0, 132, 42, 180, 0, 37, 180, 0, 145, 27, 46, 61, 28, 2, 159, 0, 7, 4, 167, 0, 4]
abbrev dktX1_isNeeded_0 : List UInt8 := dkwX1_isNeeded_0 ++ dktX1_isNeeded_1
theorem dksX1_isNeeded_0 : cX1_isNeeded.data.toList.drop 0 = dktX1_isNeeded_0 := by decide +kernel
theorem dksX1_isNeeded_1 : cX1_isNeeded.data.toList.drop 24 = dktX1_isNeeded_1 := dk_seg dksX1_isNeeded_0 24 rfl rfl
theorem dksX1_isNeeded_2 : cX1_isNeeded.data.toList.drop 47 = dktX1_isNeeded_2 := dk_seg dksX1_isNeeded_1 23 rfl rfl
theorem dksX1_isNeeded_3 : cX1_isNeeded.data.toList.drop 71 = dktX1_isNeeded_3 := dk_seg dksX1_isNeeded_2 24 rfl rfl
theorem dksX1_isNeeded_4 : cX1_isNeeded.data.toList.drop 95 = dktX1_isNeeded_4 := dk_seg dksX1_isNeeded_3 24 rfl rfl
theorem dX1_isNeeded_0 : decode cX1_isNeeded 0 = .ok (.aload_n 0, 1) := dk_42 (dk_at dksX1_isNeeded_0 0 rfl rfl)
theorem dX1_isNeeded_1 : decode cX1_isNeeded 1 = .ok (.iload_n 1, 1) := dk_27 (dk_at dksX1_isNeeded_0 1 rfl rfl)
theorem dX1_isNeeded_2 : decode cX1_isNeeded 2 = .ok (.invokevirtual 132, 3) := dk_182 0 132 (dk_at dksX1_isNeeded_0 2 rfl rfl)
theorem dX1_isNeeded_5 : decode cX1_isNeeded 5 = .ok (.aload_n 0, 1) := dk_42 (dk_at dksX1_isNeeded_0 5 rfl rfl)
theorem dX1_isNeeded_6 : decode cX1_isNeeded 6 = .ok (.getfield 37, 3) := dk_180 0 37 (dk_at dksX1_isNeeded_0 6 rfl rfl)
theorem dX1_isNeeded_9 : decode cX1_isNeeded 9 = .ok (.getfield 145, 3) := dk_180 0 145 (dk_at dksX1_isNeeded_0 9 rfl rfl)
theorem dX1_isNeeded_12 : decode cX1_isNeeded 12 = .ok (.iload_n 1, 1) := dk_27 (dk_at dksX1_isNeeded_0 12 rfl rfl)
theorem dX1_isNeeded_13 : decode cX1_isNeeded 13 = .ok (.iaload, 1) := dk_46 (dk_at dksX1_isNeeded_0 13 rfl rfl)
theorem dX1_isNeeded_14 : decode cX1_isNeeded 14 = .ok (.istore_n 2, 1) := dk_61 (dk_at dksX1_isNeeded_0 14 rfl rfl)
theorem dX1_isNeeded_15 : decode cX1_isNeeded 15 = .ok (.iload_n 2, 1) := dk_28 (dk_at dksX1_isNeeded_0 15 rfl rfl)
theorem dX1_isNeeded_16 : decode cX1_isNeeded 16 = .ok (.iconst (-1), 1) := dk_2 (dk_at dksX1_isNeeded_0 16 rfl rfl)
theorem dX1_isNeeded_17 : decode cX1_isNeeded 17 = .ok (.if_icmp .eq 7, 3) := dk_159 0 7 (dk_at dksX1_isNeeded_0 17 rfl rfl)
theorem dX1_isNeeded_20 : decode cX1_isNeeded 20 = .ok (.iconst 1, 1) := dk_4 (dk_at dksX1_isNeeded_0 20 rfl rfl)
theorem dX1_isNeeded_21 : decode cX1_isNeeded 21 = .ok (.goto 4, 3) := dk_167 0 4 (dk_at dksX1_isNeeded_0 21 rfl rfl)
theorem dX1_isNeeded_24 : decode cX1_isNeeded 24 = .ok (.iconst 0, 1) := dk_3 (dk_at dksX1_isNeeded_1 0 rfl rfl)
theorem dX1_isNeeded_25 : decode cX1_isNeeded 25 = .ok (.invokestatic 149, 3) := dk_184 0 149 (dk_at dksX1_isNeeded_1 1 rfl rfl)
theorem dX1_isNeeded_28 : decode cX1_isNeeded 28 = .ok (.aload_n 0, 1) := dk_42 (dk_at dksX1_isNeeded_1 4 rfl rfl)
theorem dX1_isNeeded_29 : decode cX1_isNeeded 29 = .ok (.getfield 37, 3) := dk_180 0 37 (dk_at dksX1_isNeeded_1 5 rfl rfl)
theorem dX1_isNeeded_32 : decode cX1_isNeeded 32 = .ok (.getfield 212, 3) := dk_180 0 212 (dk_at dksX1_isNeeded_1 8 rfl rfl)
theorem dX1_isNeeded_35 : decode cX1_isNeeded 35 = .ok (.iload_n 1, 1) := dk_27 (dk_at dksX1_isNeeded_1 11 rfl rfl)
theorem dX1_isNeeded_36 : decode cX1_isNeeded 36 = .ok (.invokestatic 197, 3) := dk_184 0 197 (dk_at dksX1_isNeeded_1 12 rfl rfl)
theorem dX1_isNeeded_39 : decode cX1_isNeeded 39 = .ok (.istore_n 3, 1) := dk_62 (dk_at dksX1_isNeeded_1 15 rfl rfl)
theorem dX1_isNeeded_40 : decode cX1_isNeeded 40 = .ok (.aload_n 0, 1) := dk_42 (dk_at dksX1_isNeeded_1 16 rfl rfl)
theorem dX1_isNeeded_41 : decode cX1_isNeeded 41 = .ok (.invokevirtual 300, 3) := dk_182 1 44 (dk_at dksX1_isNeeded_1 17 rfl rfl)
theorem dX1_isNeeded_44 : decode cX1_isNeeded 44 = .ok (.istore 4, 2) := dk_54 4 (dk_at dksX1_isNeeded_1 20 rfl rfl)
theorem dX1_isNeeded_46 : decode cX1_isNeeded 46 = .ok (.aload_n 0, 1) := dk_42 (dk_at dksX1_isNeeded_1 22 rfl rfl)
theorem dX1_isNeeded_47 : decode cX1_isNeeded 47 = .ok (.getfield 37, 3) := dk_180 0 37 (dk_at dksX1_isNeeded_2 0 rfl rfl)
theorem dX1_isNeeded_50 : decode cX1_isNeeded 50 = .ok (.iload_n 1, 1) := dk_27 (dk_at dksX1_isNeeded_2 3 rfl rfl)
theorem dX1_isNeeded_51 : decode cX1_isNeeded 51 = .ok (.iconst (-1), 1) := dk_2 (dk_at dksX1_isNeeded_2 4 rfl rfl)
theorem dX1_isNeeded_52 : decode cX1_isNeeded 52 = .ok (.iconst 0, 1) := dk_3 (dk_at dksX1_isNeeded_2 5 rfl rfl)
theorem dX1_isNeeded_53 : decode cX1_isNeeded 53 = .ok (.invokevirtual 138, 3) := dk_182 0 138 (dk_at dksX1_isNeeded_2 6 rfl rfl)
theorem dX1_isNeeded_56 : decode cX1_isNeeded 56 = .ok (.istore 5, 2) := dk_54 5 (dk_at dksX1_isNeeded_2 9 rfl rfl)
theorem dX1_isNeeded_58 : decode cX1_isNeeded 58 = .ok (.aload_n 0, 1) := dk_42 (dk_at dksX1_isNeeded_2 11 rfl rfl)
theorem dX1_isNeeded_59 : decode cX1_isNeeded 59 = .ok (.invokevirtual 300, 3) := dk_182 1 44 (dk_at dksX1_isNeeded_2 12 rfl rfl)
theorem dX1_isNeeded_62 : decode cX1_isNeeded 62 = .ok (.iload 4, 2) := dk_21 4 (dk_at dksX1_isNeeded_2 15 rfl rfl)
theorem dX1_isNeeded_64 : decode cX1_isNeeded 64 = .ok (.if_icmp .le 7, 3) := dk_164 0 7 (dk_at dksX1_isNeeded_2 17 rfl rfl)
theorem dX1_isNeeded_67 : decode cX1_isNeeded 67 = .ok (.iconst 1, 1) := dk_4 (dk_at dksX1_isNeeded_2 20 rfl rfl)
theorem dX1_isNeeded_68 : decode cX1_isNeeded 68 = .ok (.goto 4, 3) := dk_167 0 4 (dk_at dksX1_isNeeded_2 21 rfl rfl)
theorem dX1_isNeeded_71 : decode cX1_isNeeded 71 = .ok (.iconst 0, 1) := dk_3 (dk_at dksX1_isNeeded_3 0 rfl rfl)
theorem dX1_isNeeded_72 : decode cX1_isNeeded 72 = .ok (.istore 6, 2) := dk_54 6 (dk_at dksX1_isNeeded_3 1 rfl rfl)
theorem dX1_isNeeded_74 : decode cX1_isNeeded 74 = .ok (.aload_n 0, 1) := dk_42 (dk_at dksX1_isNeeded_3 3 rfl rfl)
theorem dX1_isNeeded_75 : decode cX1_isNeeded 75 = .ok (.getfield 37, 3) := dk_180 0 37 (dk_at dksX1_isNeeded_3 4 rfl rfl)
theorem dX1_isNeeded_78 : decode cX1_isNeeded 78 = .ok (.iload_n 1, 1) := dk_27 (dk_at dksX1_isNeeded_3 7 rfl rfl)
theorem dX1_isNeeded_79 : decode cX1_isNeeded 79 = .ok (.iload_n 2, 1) := dk_28 (dk_at dksX1_isNeeded_3 8 rfl rfl)
theorem dX1_isNeeded_80 : decode cX1_isNeeded 80 = .ok (.iload_n 3, 1) := dk_29 (dk_at dksX1_isNeeded_3 9 rfl rfl)
theorem dX1_isNeeded_81 : decode cX1_isNeeded 81 = .ok (.invokevirtual 138, 3) := dk_182 0 138 (dk_at dksX1_isNeeded_3 10 rfl rfl)
theorem dX1_isNeeded_84 : decode cX1_isNeeded 84 = .ok (.istore 7, 2) := dk_54 7 (dk_at dksX1_isNeeded_3 13 rfl rfl)
theorem dX1_isNeeded_86 : decode cX1_isNeeded 86 = .ok (.iload 6, 2) := dk_21 6 (dk_at dksX1_isNeeded_3 15 rfl rfl)
theorem dX1_isNeeded_88 : decode cX1_isNeeded 88 = .ok (.ireturn, 1) := dk_172 (dk_at dksX1_isNeeded_3 17 rfl rfl)
theorem dX1_isNeeded_89 : decode cX1_isNeeded 89 = .ok (.astore 8, 2) := dk_58 8 (dk_at dksX1_isNeeded_3 18 rfl rfl)
theorem dX1_isNeeded_91 : decode cX1_isNeeded 91 = .ok (.aload_n 0, 1) := dk_42 (dk_at dksX1_isNeeded_3 20 rfl rfl)
theorem dX1_isNeeded_92 : decode cX1_isNeeded 92 = .ok (.getfield 37, 3) := dk_180 0 37 (dk_at dksX1_isNeeded_3 21 rfl rfl)
theorem dX1_isNeeded_95 : decode cX1_isNeeded 95 = .ok (.iload_n 1, 1) := dk_27 (dk_at dksX1_isNeeded_4 0 rfl rfl)
theorem dX1_isNeeded_96 : decode cX1_isNeeded 96 = .ok (.iload_n 2, 1) := dk_28 (dk_at dksX1_isNeeded_4 1 rfl rfl)
theorem dX1_isNeeded_97 : decode cX1_isNeeded 97 = .ok (.iload_n 3, 1) := dk_29 (dk_at dksX1_isNeeded_4 2 rfl rfl)
theorem dX1_isNeeded_98 : decode cX1_isNeeded 98 = .ok (.invokevirtual 138, 3) := dk_182 0 138 (dk_at dksX1_isNeeded_4 3 rfl rfl)
theorem dX1_isNeeded_101 : decode cX1_isNeeded 101 = .ok (.istore 9, 2) := dk_54 9 (dk_at dksX1_isNeeded_4 6 rfl rfl)
theorem dX1_isNeeded_103 : decode cX1_isNeeded 103 = .ok (.aload 8, 2) := dk_25 8 (dk_at dksX1_isNeeded_4 8 rfl rfl)
theorem dX1_isNeeded_105 : decode cX1_isNeeded 105 = .ok (.athrow, 1) := dk_191 (dk_at dksX1_isNeeded_4 10 rfl rfl)
abbrev cX1_appendText : ByteArray := prog_1_method_63_code
def yX1_appendText : MethodName := ⟨RX1, "appendText", "(J)I"⟩
def dkwX1_appendText_5 : List UInt8 := [146, 182, 1, 55, 87, 132, 6, 255, 167, 255, 227, 42, 180, 0, 68, 182, 1, 52, 172]
abbrev dktX1_appendText_5 : List UInt8 := dkwX1_appendText_5 ++ []
def dkwX1_appendText_4 : List UInt8 := [100, 54, 6, 21, 6, 155, 0, 30, 42, 180, 0, 68, 31, 16, 8, 21, 6, 104, 123, 20, 1, 50, 127, 136]
abbrev dktX1_appendText_4 : List UInt8 := dkwX1_appendText_4 ++ dktX1_appendText_5
def dkwX1_appendText_3 : List UInt8 := [42, 180, 0, 68, 182, 1, 52, 29, 96, 16, 80, 163, 0, 7, 4, 167, 0, 4, 3, 184, 0, 149, 29, 4]
abbrev dktX1_appendText_3 : List UInt8 := dkwX1_appendText_3 ++ dktX1_appendText_4
def dkwX1_appendText_2 : List UInt8 := [55, 4, 167, 255, 212, 29, 158, 0, 14, 22, 4, 9, 148, 154, 0, 7, 4, 167, 0, 4, 3, 184, 0, 19]
abbrev dktX1_appendText_2 : List UInt8 := dkwX1_appendText_2 ++ dktX1_appendText_3
def dkwX1_appendText_1 : List UInt8 := [20, 1, 50, 127, 136, 16, 33, 16, 126, 184, 0, 15, 184, 0, 19, 132, 3, 1, 22, 4, 16, 8, 125]
abbrev dktX1_appendText_1 : List UInt8 := dkwX1_appendText_1 ++ dktX1_appendText_2
def dkwX1_appendText_0 : List UInt8 := [3, 62, 31, 55, 4, 29, 16, 8, 162, 0, 44, 22, 4, 20, 1, 50, 127, 9, 148, 153, 0, 33, 22, 4]
abbrev dktX1_appendText_0 : List UInt8 := dkwX1_appendText_0 ++ dktX1_appendText_1
theorem dksX1_appendText_0 : cX1_appendText.data.toList.drop 0 = dktX1_appendText_0 := by decide +kernel
theorem dksX1_appendText_1 : cX1_appendText.data.toList.drop 24 = dktX1_appendText_1 := dk_seg dksX1_appendText_0 24 rfl rfl
theorem dksX1_appendText_2 : cX1_appendText.data.toList.drop 47 = dktX1_appendText_2 := dk_seg dksX1_appendText_1 23 rfl rfl
theorem dksX1_appendText_3 : cX1_appendText.data.toList.drop 71 = dktX1_appendText_3 := dk_seg dksX1_appendText_2 24 rfl rfl
theorem dksX1_appendText_4 : cX1_appendText.data.toList.drop 95 = dktX1_appendText_4 := dk_seg dksX1_appendText_3 24 rfl rfl
theorem dksX1_appendText_5 : cX1_appendText.data.toList.drop 119 = dktX1_appendText_5 := dk_seg dksX1_appendText_4 24 rfl rfl
theorem dX1_appendText_0 : decode cX1_appendText 0 = .ok (.iconst 0, 1) := dk_3 (dk_at dksX1_appendText_0 0 rfl rfl)
theorem dX1_appendText_1 : decode cX1_appendText 1 = .ok (.istore_n 3, 1) := dk_62 (dk_at dksX1_appendText_0 1 rfl rfl)
theorem dX1_appendText_2 : decode cX1_appendText 2 = .ok (.lload_n 1, 1) := dk_31 (dk_at dksX1_appendText_0 2 rfl rfl)
theorem dX1_appendText_3 : decode cX1_appendText 3 = .ok (.lstore 4, 2) := dk_55 4 (dk_at dksX1_appendText_0 3 rfl rfl)
theorem dX1_appendText_5 : decode cX1_appendText 5 = .ok (.iload_n 3, 1) := dk_29 (dk_at dksX1_appendText_0 5 rfl rfl)
theorem dX1_appendText_6 : decode cX1_appendText 6 = .ok (.bipush 8, 2) := dk_16 8 (dk_at dksX1_appendText_0 6 rfl rfl)
theorem dX1_appendText_8 : decode cX1_appendText 8 = .ok (.if_icmp .ge 44, 3) := dk_162 0 44 (dk_at dksX1_appendText_0 8 rfl rfl)
theorem dX1_appendText_11 : decode cX1_appendText 11 = .ok (.lload 4, 2) := dk_22 4 (dk_at dksX1_appendText_0 11 rfl rfl)
theorem dX1_appendText_13 : decode cX1_appendText 13 = .ok (.ldc2_w 306, 3) := dk_20 1 50 (dk_at dksX1_appendText_0 13 rfl rfl)
theorem dX1_appendText_16 : decode cX1_appendText 16 = .ok (.land, 1) := dk_127 (dk_at dksX1_appendText_0 16 rfl rfl)
theorem dX1_appendText_17 : decode cX1_appendText 17 = .ok (.lconst 0, 1) := dk_9 (dk_at dksX1_appendText_0 17 rfl rfl)
theorem dX1_appendText_18 : decode cX1_appendText 18 = .ok (.lcmp, 1) := dk_148 (dk_at dksX1_appendText_0 18 rfl rfl)
theorem dX1_appendText_19 : decode cX1_appendText 19 = .ok (.ifCond .eq 33, 3) := dk_153 0 33 (dk_at dksX1_appendText_0 19 rfl rfl)
theorem dX1_appendText_22 : decode cX1_appendText 22 = .ok (.lload 4, 2) := dk_22 4 (dk_at dksX1_appendText_0 22 rfl rfl)
theorem dX1_appendText_24 : decode cX1_appendText 24 = .ok (.ldc2_w 306, 3) := dk_20 1 50 (dk_at dksX1_appendText_1 0 rfl rfl)
theorem dX1_appendText_27 : decode cX1_appendText 27 = .ok (.land, 1) := dk_127 (dk_at dksX1_appendText_1 3 rfl rfl)
theorem dX1_appendText_28 : decode cX1_appendText 28 = .ok (.l2i, 1) := dk_136 (dk_at dksX1_appendText_1 4 rfl rfl)
theorem dX1_appendText_29 : decode cX1_appendText 29 = .ok (.bipush 33, 2) := dk_16 33 (dk_at dksX1_appendText_1 5 rfl rfl)
theorem dX1_appendText_31 : decode cX1_appendText 31 = .ok (.bipush 126, 2) := dk_16 126 (dk_at dksX1_appendText_1 7 rfl rfl)
theorem dX1_appendText_33 : decode cX1_appendText 33 = .ok (.invokestatic 15, 3) := dk_184 0 15 (dk_at dksX1_appendText_1 9 rfl rfl)
theorem dX1_appendText_36 : decode cX1_appendText 36 = .ok (.invokestatic 19, 3) := dk_184 0 19 (dk_at dksX1_appendText_1 12 rfl rfl)
theorem dX1_appendText_39 : decode cX1_appendText 39 = .ok (.iinc 3 1, 3) := dk_132 3 1 (dk_at dksX1_appendText_1 15 rfl rfl)
theorem dX1_appendText_42 : decode cX1_appendText 42 = .ok (.lload 4, 2) := dk_22 4 (dk_at dksX1_appendText_1 18 rfl rfl)
theorem dX1_appendText_44 : decode cX1_appendText 44 = .ok (.bipush 8, 2) := dk_16 8 (dk_at dksX1_appendText_1 20 rfl rfl)
theorem dX1_appendText_46 : decode cX1_appendText 46 = .ok (.lushr, 1) := dk_125 (dk_at dksX1_appendText_1 22 rfl rfl)
theorem dX1_appendText_47 : decode cX1_appendText 47 = .ok (.lstore 4, 2) := dk_55 4 (dk_at dksX1_appendText_2 0 rfl rfl)
theorem dX1_appendText_49 : decode cX1_appendText 49 = .ok (.goto (-44), 3) := dk_167 255 212 (dk_at dksX1_appendText_2 2 rfl rfl)
theorem dX1_appendText_52 : decode cX1_appendText 52 = .ok (.iload_n 3, 1) := dk_29 (dk_at dksX1_appendText_2 5 rfl rfl)
theorem dX1_appendText_53 : decode cX1_appendText 53 = .ok (.ifCond .le 14, 3) := dk_158 0 14 (dk_at dksX1_appendText_2 6 rfl rfl)
theorem dX1_appendText_56 : decode cX1_appendText 56 = .ok (.lload 4, 2) := dk_22 4 (dk_at dksX1_appendText_2 9 rfl rfl)
theorem dX1_appendText_58 : decode cX1_appendText 58 = .ok (.lconst 0, 1) := dk_9 (dk_at dksX1_appendText_2 11 rfl rfl)
theorem dX1_appendText_59 : decode cX1_appendText 59 = .ok (.lcmp, 1) := dk_148 (dk_at dksX1_appendText_2 12 rfl rfl)
theorem dX1_appendText_60 : decode cX1_appendText 60 = .ok (.ifCond .ne 7, 3) := dk_154 0 7 (dk_at dksX1_appendText_2 13 rfl rfl)
theorem dX1_appendText_63 : decode cX1_appendText 63 = .ok (.iconst 1, 1) := dk_4 (dk_at dksX1_appendText_2 16 rfl rfl)
theorem dX1_appendText_64 : decode cX1_appendText 64 = .ok (.goto 4, 3) := dk_167 0 4 (dk_at dksX1_appendText_2 17 rfl rfl)
theorem dX1_appendText_67 : decode cX1_appendText 67 = .ok (.iconst 0, 1) := dk_3 (dk_at dksX1_appendText_2 20 rfl rfl)
theorem dX1_appendText_68 : decode cX1_appendText 68 = .ok (.invokestatic 19, 3) := dk_184 0 19 (dk_at dksX1_appendText_2 21 rfl rfl)
theorem dX1_appendText_71 : decode cX1_appendText 71 = .ok (.aload_n 0, 1) := dk_42 (dk_at dksX1_appendText_3 0 rfl rfl)
theorem dX1_appendText_72 : decode cX1_appendText 72 = .ok (.getfield 68, 3) := dk_180 0 68 (dk_at dksX1_appendText_3 1 rfl rfl)
theorem dX1_appendText_75 : decode cX1_appendText 75 = .ok (.invokevirtual 308, 3) := dk_182 1 52 (dk_at dksX1_appendText_3 4 rfl rfl)
theorem dX1_appendText_78 : decode cX1_appendText 78 = .ok (.iload_n 3, 1) := dk_29 (dk_at dksX1_appendText_3 7 rfl rfl)
theorem dX1_appendText_79 : decode cX1_appendText 79 = .ok (.iadd, 1) := dk_96 (dk_at dksX1_appendText_3 8 rfl rfl)
theorem dX1_appendText_80 : decode cX1_appendText 80 = .ok (.bipush 80, 2) := dk_16 80 (dk_at dksX1_appendText_3 9 rfl rfl)
theorem dX1_appendText_82 : decode cX1_appendText 82 = .ok (.if_icmp .gt 7, 3) := dk_163 0 7 (dk_at dksX1_appendText_3 11 rfl rfl)
theorem dX1_appendText_85 : decode cX1_appendText 85 = .ok (.iconst 1, 1) := dk_4 (dk_at dksX1_appendText_3 14 rfl rfl)
theorem dX1_appendText_86 : decode cX1_appendText 86 = .ok (.goto 4, 3) := dk_167 0 4 (dk_at dksX1_appendText_3 15 rfl rfl)
theorem dX1_appendText_89 : decode cX1_appendText 89 = .ok (.iconst 0, 1) := dk_3 (dk_at dksX1_appendText_3 18 rfl rfl)
theorem dX1_appendText_90 : decode cX1_appendText 90 = .ok (.invokestatic 149, 3) := dk_184 0 149 (dk_at dksX1_appendText_3 19 rfl rfl)
theorem dX1_appendText_93 : decode cX1_appendText 93 = .ok (.iload_n 3, 1) := dk_29 (dk_at dksX1_appendText_3 22 rfl rfl)
theorem dX1_appendText_94 : decode cX1_appendText 94 = .ok (.iconst 1, 1) := dk_4 (dk_at dksX1_appendText_3 23 rfl rfl)
theorem dX1_appendText_95 : decode cX1_appendText 95 = .ok (.isub, 1) := dk_100 (dk_at dksX1_appendText_4 0 rfl rfl)
theorem dX1_appendText_96 : decode cX1_appendText 96 = .ok (.istore 6, 2) := dk_54 6 (dk_at dksX1_appendText_4 1 rfl rfl)
theorem dX1_appendText_98 : decode cX1_appendText 98 = .ok (.iload 6, 2) := dk_21 6 (dk_at dksX1_appendText_4 3 rfl rfl)
theorem dX1_appendText_100 : decode cX1_appendText 100 = .ok (.ifCond .lt 30, 3) := dk_155 0 30 (dk_at dksX1_appendText_4 5 rfl rfl)
theorem dX1_appendText_103 : decode cX1_appendText 103 = .ok (.aload_n 0, 1) := dk_42 (dk_at dksX1_appendText_4 8 rfl rfl)
theorem dX1_appendText_104 : decode cX1_appendText 104 = .ok (.getfield 68, 3) := dk_180 0 68 (dk_at dksX1_appendText_4 9 rfl rfl)
theorem dX1_appendText_107 : decode cX1_appendText 107 = .ok (.lload_n 1, 1) := dk_31 (dk_at dksX1_appendText_4 12 rfl rfl)
theorem dX1_appendText_108 : decode cX1_appendText 108 = .ok (.bipush 8, 2) := dk_16 8 (dk_at dksX1_appendText_4 13 rfl rfl)
theorem dX1_appendText_110 : decode cX1_appendText 110 = .ok (.iload 6, 2) := dk_21 6 (dk_at dksX1_appendText_4 15 rfl rfl)
theorem dX1_appendText_112 : decode cX1_appendText 112 = .ok (.imul, 1) := dk_104 (dk_at dksX1_appendText_4 17 rfl rfl)
theorem dX1_appendText_113 : decode cX1_appendText 113 = .ok (.lshr, 1) := dk_123 (dk_at dksX1_appendText_4 18 rfl rfl)
theorem dX1_appendText_114 : decode cX1_appendText 114 = .ok (.ldc2_w 306, 3) := dk_20 1 50 (dk_at dksX1_appendText_4 19 rfl rfl)
theorem dX1_appendText_117 : decode cX1_appendText 117 = .ok (.land, 1) := dk_127 (dk_at dksX1_appendText_4 22 rfl rfl)
theorem dX1_appendText_118 : decode cX1_appendText 118 = .ok (.l2i, 1) := dk_136 (dk_at dksX1_appendText_4 23 rfl rfl)
theorem dX1_appendText_119 : decode cX1_appendText 119 = .ok (.i2c, 1) := dk_146 (dk_at dksX1_appendText_5 0 rfl rfl)
theorem dX1_appendText_120 : decode cX1_appendText 120 = .ok (.invokevirtual 311, 3) := dk_182 1 55 (dk_at dksX1_appendText_5 1 rfl rfl)
theorem dX1_appendText_123 : decode cX1_appendText 123 = .ok (.pop, 1) := dk_87 (dk_at dksX1_appendText_5 4 rfl rfl)
theorem dX1_appendText_124 : decode cX1_appendText 124 = .ok (.iinc 6 (-1), 3) := dk_132 6 255 (dk_at dksX1_appendText_5 5 rfl rfl)
theorem dX1_appendText_127 : decode cX1_appendText 127 = .ok (.goto (-29), 3) := dk_167 255 227 (dk_at dksX1_appendText_5 8 rfl rfl)
theorem dX1_appendText_130 : decode cX1_appendText 130 = .ok (.aload_n 0, 1) := dk_42 (dk_at dksX1_appendText_5 11 rfl rfl)
theorem dX1_appendText_131 : decode cX1_appendText 131 = .ok (.getfield 68, 3) := dk_180 0 68 (dk_at dksX1_appendText_5 12 rfl rfl)
theorem dX1_appendText_134 : decode cX1_appendText 134 = .ok (.invokevirtual 308, 3) := dk_182 1 52 (dk_at dksX1_appendText_5 15 rfl rfl)
theorem dX1_appendText_137 : decode cX1_appendText 137 = .ok (.ireturn, 1) := dk_172 (dk_at dksX1_appendText_5 18 rfl rfl)
abbrev cX1_runText : ByteArray := prog_1_method_69_code
def yX1_runText : MethodName := ⟨RX1, "runText", "()I"⟩
def dkwX1_runText_3 : List UInt8 := [182, 1, 84, 153, 0, 9, 132, 2, 1, 167, 255, 220, 28, 172]
abbrev dktX1_runText_3 : List UInt8 := dkwX1_runText_3 ++ []
def dkwX1_runText_2 : List UInt8 := [185, 0, 72, 1, 0, 162, 0, 29, 42, 43, 180, 1, 77, 28, 185, 1, 80, 2, 0, 192, 1, 83]
abbrev dktX1_runText_2 : List UInt8 := dkwX1_runText_2 ++ dktX1_runText_3
def dkwX1_runText_1 : List UInt8 := [42, 4, 182, 0, 115, 42, 180, 0, 68, 3, 182, 1, 59, 3, 61, 28, 43, 180, 1, 77]
abbrev dktX1_runText_1 : List UInt8 := dkwX1_runText_1 ++ dktX1_runText_2
def dkwX1_runText_0 : List UInt8 := [187, 1, 62, 89, 42, 183, 1, 64, 76, 43, 180, 1, 67, 154, 0, 7, 4, 167, 0, 4, 3, 184, 0, 149]
abbrev dktX1_runText_0 : List UInt8 := dkwX1_runText_0 ++ dktX1_runText_1
theorem dksX1_runText_0 : cX1_runText.data.toList.drop 0 = dktX1_runText_0 := by decide +kernel
theorem dksX1_runText_1 : cX1_runText.data.toList.drop 24 = dktX1_runText_1 := dk_seg dksX1_runText_0 24 rfl rfl
theorem dksX1_runText_2 : cX1_runText.data.toList.drop 44 = dktX1_runText_2 := dk_seg dksX1_runText_1 20 rfl rfl
theorem dksX1_runText_3 : cX1_runText.data.toList.drop 66 = dktX1_runText_3 := dk_seg dksX1_runText_2 22 rfl rfl
theorem dX1_runText_0 : decode cX1_runText 0 = .ok (.new 318, 3) := dk_187 1 62 (dk_at dksX1_runText_0 0 rfl rfl)
theorem dX1_runText_3 : decode cX1_runText 3 = .ok (.dup, 1) := dk_89 (dk_at dksX1_runText_0 3 rfl rfl)
theorem dX1_runText_4 : decode cX1_runText 4 = .ok (.aload_n 0, 1) := dk_42 (dk_at dksX1_runText_0 4 rfl rfl)
theorem dX1_runText_5 : decode cX1_runText 5 = .ok (.invokespecial 320, 3) := dk_183 1 64 (dk_at dksX1_runText_0 5 rfl rfl)
theorem dX1_runText_8 : decode cX1_runText 8 = .ok (.astore_n 1, 1) := dk_76 (dk_at dksX1_runText_0 8 rfl rfl)
theorem dX1_runText_9 : decode cX1_runText 9 = .ok (.aload_n 1, 1) := dk_43 (dk_at dksX1_runText_0 9 rfl rfl)
theorem dX1_runText_10 : decode cX1_runText 10 = .ok (.getfield 323, 3) := dk_180 1 67 (dk_at dksX1_runText_0 10 rfl rfl)
theorem dX1_runText_13 : decode cX1_runText 13 = .ok (.ifCond .ne 7, 3) := dk_154 0 7 (dk_at dksX1_runText_0 13 rfl rfl)
theorem dX1_runText_16 : decode cX1_runText 16 = .ok (.iconst 1, 1) := dk_4 (dk_at dksX1_runText_0 16 rfl rfl)
theorem dX1_runText_17 : decode cX1_runText 17 = .ok (.goto 4, 3) := dk_167 0 4 (dk_at dksX1_runText_0 17 rfl rfl)
theorem dX1_runText_20 : decode cX1_runText 20 = .ok (.iconst 0, 1) := dk_3 (dk_at dksX1_runText_0 20 rfl rfl)
theorem dX1_runText_21 : decode cX1_runText 21 = .ok (.invokestatic 149, 3) := dk_184 0 149 (dk_at dksX1_runText_0 21 rfl rfl)
theorem dX1_runText_24 : decode cX1_runText 24 = .ok (.aload_n 0, 1) := dk_42 (dk_at dksX1_runText_1 0 rfl rfl)
theorem dX1_runText_25 : decode cX1_runText 25 = .ok (.iconst 1, 1) := dk_4 (dk_at dksX1_runText_1 1 rfl rfl)
theorem dX1_runText_26 : decode cX1_runText 26 = .ok (.invokevirtual 115, 3) := dk_182 0 115 (dk_at dksX1_runText_1 2 rfl rfl)
theorem dX1_runText_29 : decode cX1_runText 29 = .ok (.aload_n 0, 1) := dk_42 (dk_at dksX1_runText_1 5 rfl rfl)
theorem dX1_runText_30 : decode cX1_runText 30 = .ok (.getfield 68, 3) := dk_180 0 68 (dk_at dksX1_runText_1 6 rfl rfl)
theorem dX1_runText_33 : decode cX1_runText 33 = .ok (.iconst 0, 1) := dk_3 (dk_at dksX1_runText_1 9 rfl rfl)
theorem dX1_runText_34 : decode cX1_runText 34 = .ok (.invokevirtual 315, 3) := dk_182 1 59 (dk_at dksX1_runText_1 10 rfl rfl)
theorem dX1_runText_37 : decode cX1_runText 37 = .ok (.iconst 0, 1) := dk_3 (dk_at dksX1_runText_1 13 rfl rfl)
theorem dX1_runText_38 : decode cX1_runText 38 = .ok (.istore_n 2, 1) := dk_61 (dk_at dksX1_runText_1 14 rfl rfl)
theorem dX1_runText_39 : decode cX1_runText 39 = .ok (.iload_n 2, 1) := dk_28 (dk_at dksX1_runText_1 15 rfl rfl)
theorem dX1_runText_40 : decode cX1_runText 40 = .ok (.aload_n 1, 1) := dk_43 (dk_at dksX1_runText_1 16 rfl rfl)
theorem dX1_runText_41 : decode cX1_runText 41 = .ok (.getfield 333, 3) := dk_180 1 77 (dk_at dksX1_runText_1 17 rfl rfl)
theorem dX1_runText_44 : decode cX1_runText 44 = .ok (.invokeinterface 72 1, 5) := by decide +kernel
theorem dX1_runText_49 : decode cX1_runText 49 = .ok (.if_icmp .ge 29, 3) := dk_162 0 29 (dk_at dksX1_runText_2 5 rfl rfl)
theorem dX1_runText_52 : decode cX1_runText 52 = .ok (.aload_n 0, 1) := dk_42 (dk_at dksX1_runText_2 8 rfl rfl)
theorem dX1_runText_53 : decode cX1_runText 53 = .ok (.aload_n 1, 1) := dk_43 (dk_at dksX1_runText_2 9 rfl rfl)
theorem dX1_runText_54 : decode cX1_runText 54 = .ok (.getfield 333, 3) := dk_180 1 77 (dk_at dksX1_runText_2 10 rfl rfl)
theorem dX1_runText_57 : decode cX1_runText 57 = .ok (.iload_n 2, 1) := dk_28 (dk_at dksX1_runText_2 13 rfl rfl)
theorem dX1_runText_58 : decode cX1_runText 58 = .ok (.invokeinterface 336 2, 5) := by decide +kernel
theorem dX1_runText_63 : decode cX1_runText 63 = .ok (.checkcast 339, 3) := dk_192 1 83 (dk_at dksX1_runText_2 19 rfl rfl)
theorem dX1_runText_66 : decode cX1_runText 66 = .ok (.invokevirtual 340, 3) := dk_182 1 84 (dk_at dksX1_runText_3 0 rfl rfl)
theorem dX1_runText_69 : decode cX1_runText 69 = .ok (.ifCond .eq 9, 3) := dk_153 0 9 (dk_at dksX1_runText_3 3 rfl rfl)
theorem dX1_runText_72 : decode cX1_runText 72 = .ok (.iinc 2 1, 3) := dk_132 2 1 (dk_at dksX1_runText_3 6 rfl rfl)
theorem dX1_runText_75 : decode cX1_runText 75 = .ok (.goto (-36), 3) := dk_167 255 220 (dk_at dksX1_runText_3 9 rfl rfl)
theorem dX1_runText_78 : decode cX1_runText 78 = .ok (.iload_n 2, 1) := dk_28 (dk_at dksX1_runText_3 12 rfl rfl)
theorem dX1_runText_79 : decode cX1_runText 79 = .ok (.ireturn, 1) := dk_172 (dk_at dksX1_runText_3 13 rfl rfl)
abbrev cX1_succeeds : ByteArray := prog_1_method_68_code
def yX1_succeeds : MethodName := ⟨RX1, "succeeds", "([I)Z"⟩
def dkwX1_succeeds_0 : List UInt8 := [42, 43, 182, 1, 73, 61, 4, 172, 77, 3, 172]
abbrev dktX1_succeeds_0 : List UInt8 := dkwX1_succeeds_0 ++ []
theorem dksX1_succeeds_0 : cX1_succeeds.data.toList.drop 0 = dktX1_succeeds_0 := by decide +kernel
theorem dX1_succeeds_0 : decode cX1_succeeds 0 = .ok (.aload_n 0, 1) := dk_42 (dk_at dksX1_succeeds_0 0 rfl rfl)
theorem dX1_succeeds_1 : decode cX1_succeeds 1 = .ok (.aload_n 1, 1) := dk_43 (dk_at dksX1_succeeds_0 1 rfl rfl)
theorem dX1_succeeds_2 : decode cX1_succeeds 2 = .ok (.invokevirtual 329, 3) := dk_182 1 73 (dk_at dksX1_succeeds_0 2 rfl rfl)
theorem dX1_succeeds_5 : decode cX1_succeeds 5 = .ok (.istore_n 2, 1) := dk_61 (dk_at dksX1_succeeds_0 5 rfl rfl)
theorem dX1_succeeds_6 : decode cX1_succeeds 6 = .ok (.iconst 1, 1) := dk_4 (dk_at dksX1_succeeds_0 6 rfl rfl)
theorem dX1_succeeds_7 : decode cX1_succeeds 7 = .ok (.ireturn, 1) := dk_172 (dk_at dksX1_succeeds_0 7 rfl rfl)
theorem dX1_succeeds_8 : decode cX1_succeeds 8 = .ok (.astore_n 2, 1) := dk_77 (dk_at dksX1_succeeds_0 8 rfl rfl)
theorem dX1_succeeds_9 : decode cX1_succeeds 9 = .ok (.iconst 0, 1) := dk_3 (dk_at dksX1_succeeds_0 9 rfl rfl)
theorem dX1_succeeds_10 : decode cX1_succeeds 10 = .ok (.ireturn, 1) := dk_172 (dk_at dksX1_succeeds_0 10 rfl rfl)
abbrev cX1_execute : ByteArray := prog_1_method_67_code
def yX1_execute : MethodName := ⟨RX1, "execute", "([I)I"⟩
def dkwX1_execute_6 : List UInt8 := [21, 4, 153, 0, 7, 29, 167, 0, 4, 2, 3, 182, 0, 236, 172]
abbrev dktX1_execute_6 : List UInt8 := dkwX1_execute_6 ++ []
def dkwX1_execute_5 : List UInt8 := [182, 0, 155, 172, 42, 28, 21, 4, 153, 0, 7, 29, 167, 0, 4, 2, 3, 182, 0, 233, 172, 42, 28]
abbrev dktX1_execute_5 : List UInt8 := dkwX1_execute_5 ++ dktX1_execute_6
def dkwX1_execute_4 : List UInt8 := [42, 28, 29, 43, 6, 46, 4, 160, 0, 7, 4, 167, 0, 4, 3, 3, 182, 0, 142, 172, 42, 28, 3]
abbrev dktX1_execute_4 : List UInt8 := dkwX1_execute_4 ++ dktX1_execute_5
def dkwX1_execute_3 : List UInt8 := [171, 0, 0, 0, 77, 0, 0, 0, 3, 0, 0, 0, 42, 0, 0, 0, 53, 0, 0, 0, 58, 0, 0, 0, 60, 0, 0, 0, 61, 0, 0, 0, 33]
abbrev dktX1_execute_3 : List UInt8 := dkwX1_execute_3 ++ dktX1_execute_4
def dkwX1_execute_2 : List UInt8 := [167, 0, 4, 3, 54, 4, 43, 3, 46]
abbrev dktX1_execute_2 : List UInt8 := dkwX1_execute_2 ++ dktX1_execute_3
def dkwX1_execute_1 : List UInt8 := [62, 43, 5, 46, 42, 180, 0, 37, 180, 0, 112, 161, 0, 10, 43, 5, 46, 8, 160, 0, 7, 4]
abbrev dktX1_execute_1 : List UInt8 := dkwX1_execute_1 ++ dktX1_execute_2
def dkwX1_execute_0 : List UInt8 := [43, 4, 46, 61, 43, 5, 46, 8, 160, 0, 13, 42, 180, 0, 37, 180, 0, 112, 167, 0, 6, 43, 5, 46]
abbrev dktX1_execute_0 : List UInt8 := dkwX1_execute_0 ++ dktX1_execute_1
theorem dksX1_execute_0 : cX1_execute.data.toList.drop 0 = dktX1_execute_0 := by decide +kernel
theorem dksX1_execute_1 : cX1_execute.data.toList.drop 24 = dktX1_execute_1 := dk_seg dksX1_execute_0 24 rfl rfl
theorem dksX1_execute_2 : cX1_execute.data.toList.drop 46 = dktX1_execute_2 := dk_seg dksX1_execute_1 22 rfl rfl
theorem dksX1_execute_3 : cX1_execute.data.toList.drop 55 = dktX1_execute_3 := dk_seg dksX1_execute_2 9 rfl rfl
theorem dksX1_execute_4 : cX1_execute.data.toList.drop 88 = dktX1_execute_4 := dk_seg dksX1_execute_3 33 rfl rfl
theorem dksX1_execute_5 : cX1_execute.data.toList.drop 111 = dktX1_execute_5 := dk_seg dksX1_execute_4 23 rfl rfl
theorem dksX1_execute_6 : cX1_execute.data.toList.drop 134 = dktX1_execute_6 := dk_seg dksX1_execute_5 23 rfl rfl
theorem dX1_execute_0 : decode cX1_execute 0 = .ok (.aload_n 1, 1) := dk_43 (dk_at dksX1_execute_0 0 rfl rfl)
theorem dX1_execute_1 : decode cX1_execute 1 = .ok (.iconst 1, 1) := dk_4 (dk_at dksX1_execute_0 1 rfl rfl)
theorem dX1_execute_2 : decode cX1_execute 2 = .ok (.iaload, 1) := dk_46 (dk_at dksX1_execute_0 2 rfl rfl)
theorem dX1_execute_3 : decode cX1_execute 3 = .ok (.istore_n 2, 1) := dk_61 (dk_at dksX1_execute_0 3 rfl rfl)
theorem dX1_execute_4 : decode cX1_execute 4 = .ok (.aload_n 1, 1) := dk_43 (dk_at dksX1_execute_0 4 rfl rfl)
theorem dX1_execute_5 : decode cX1_execute 5 = .ok (.iconst 2, 1) := dk_5 (dk_at dksX1_execute_0 5 rfl rfl)
theorem dX1_execute_6 : decode cX1_execute 6 = .ok (.iaload, 1) := dk_46 (dk_at dksX1_execute_0 6 rfl rfl)
theorem dX1_execute_7 : decode cX1_execute 7 = .ok (.iconst 5, 1) := dk_8 (dk_at dksX1_execute_0 7 rfl rfl)
theorem dX1_execute_8 : decode cX1_execute 8 = .ok (.if_icmp .ne 13, 3) := dk_160 0 13 (dk_at dksX1_execute_0 8 rfl rfl)
theorem dX1_execute_11 : decode cX1_execute 11 = .ok (.aload_n 0, 1) := dk_42 (dk_at dksX1_execute_0 11 rfl rfl)
theorem dX1_execute_12 : decode cX1_execute 12 = .ok (.getfield 37, 3) := dk_180 0 37 (dk_at dksX1_execute_0 12 rfl rfl)
theorem dX1_execute_15 : decode cX1_execute 15 = .ok (.getfield 112, 3) := dk_180 0 112 (dk_at dksX1_execute_0 15 rfl rfl)
theorem dX1_execute_18 : decode cX1_execute 18 = .ok (.goto 6, 3) := dk_167 0 6 (dk_at dksX1_execute_0 18 rfl rfl)
theorem dX1_execute_21 : decode cX1_execute 21 = .ok (.aload_n 1, 1) := dk_43 (dk_at dksX1_execute_0 21 rfl rfl)
theorem dX1_execute_22 : decode cX1_execute 22 = .ok (.iconst 2, 1) := dk_5 (dk_at dksX1_execute_0 22 rfl rfl)
theorem dX1_execute_23 : decode cX1_execute 23 = .ok (.iaload, 1) := dk_46 (dk_at dksX1_execute_0 23 rfl rfl)
theorem dX1_execute_24 : decode cX1_execute 24 = .ok (.istore_n 3, 1) := dk_62 (dk_at dksX1_execute_1 0 rfl rfl)
theorem dX1_execute_25 : decode cX1_execute 25 = .ok (.aload_n 1, 1) := dk_43 (dk_at dksX1_execute_1 1 rfl rfl)
theorem dX1_execute_26 : decode cX1_execute 26 = .ok (.iconst 2, 1) := dk_5 (dk_at dksX1_execute_1 2 rfl rfl)
theorem dX1_execute_27 : decode cX1_execute 27 = .ok (.iaload, 1) := dk_46 (dk_at dksX1_execute_1 3 rfl rfl)
theorem dX1_execute_28 : decode cX1_execute 28 = .ok (.aload_n 0, 1) := dk_42 (dk_at dksX1_execute_1 4 rfl rfl)
theorem dX1_execute_29 : decode cX1_execute 29 = .ok (.getfield 37, 3) := dk_180 0 37 (dk_at dksX1_execute_1 5 rfl rfl)
theorem dX1_execute_32 : decode cX1_execute 32 = .ok (.getfield 112, 3) := dk_180 0 112 (dk_at dksX1_execute_1 8 rfl rfl)
theorem dX1_execute_35 : decode cX1_execute 35 = .ok (.if_icmp .lt 10, 3) := dk_161 0 10 (dk_at dksX1_execute_1 11 rfl rfl)
theorem dX1_execute_38 : decode cX1_execute 38 = .ok (.aload_n 1, 1) := dk_43 (dk_at dksX1_execute_1 14 rfl rfl)
theorem dX1_execute_39 : decode cX1_execute 39 = .ok (.iconst 2, 1) := dk_5 (dk_at dksX1_execute_1 15 rfl rfl)
theorem dX1_execute_40 : decode cX1_execute 40 = .ok (.iaload, 1) := dk_46 (dk_at dksX1_execute_1 16 rfl rfl)
theorem dX1_execute_41 : decode cX1_execute 41 = .ok (.iconst 5, 1) := dk_8 (dk_at dksX1_execute_1 17 rfl rfl)
theorem dX1_execute_42 : decode cX1_execute 42 = .ok (.if_icmp .ne 7, 3) := dk_160 0 7 (dk_at dksX1_execute_1 18 rfl rfl)
theorem dX1_execute_45 : decode cX1_execute 45 = .ok (.iconst 1, 1) := dk_4 (dk_at dksX1_execute_1 21 rfl rfl)
theorem dX1_execute_46 : decode cX1_execute 46 = .ok (.goto 4, 3) := dk_167 0 4 (dk_at dksX1_execute_2 0 rfl rfl)
theorem dX1_execute_49 : decode cX1_execute 49 = .ok (.iconst 0, 1) := dk_3 (dk_at dksX1_execute_2 3 rfl rfl)
theorem dX1_execute_50 : decode cX1_execute 50 = .ok (.istore 4, 2) := dk_54 4 (dk_at dksX1_execute_2 4 rfl rfl)
theorem dX1_execute_52 : decode cX1_execute 52 = .ok (.aload_n 1, 1) := dk_43 (dk_at dksX1_execute_2 6 rfl rfl)
theorem dX1_execute_53 : decode cX1_execute 53 = .ok (.iconst 0, 1) := dk_3 (dk_at dksX1_execute_2 7 rfl rfl)
theorem dX1_execute_54 : decode cX1_execute 54 = .ok (.iaload, 1) := dk_46 (dk_at dksX1_execute_2 8 rfl rfl)
theorem dX1_execute_55 : decode cX1_execute 55 = .ok (.lookupswitch 77 #[(42, 53), (58, 60), (61, 33)], 33) := by decide +kernel
theorem dX1_execute_88 : decode cX1_execute 88 = .ok (.aload_n 0, 1) := dk_42 (dk_at dksX1_execute_4 0 rfl rfl)
theorem dX1_execute_89 : decode cX1_execute 89 = .ok (.iload_n 2, 1) := dk_28 (dk_at dksX1_execute_4 1 rfl rfl)
theorem dX1_execute_90 : decode cX1_execute 90 = .ok (.iload_n 3, 1) := dk_29 (dk_at dksX1_execute_4 2 rfl rfl)
theorem dX1_execute_91 : decode cX1_execute 91 = .ok (.aload_n 1, 1) := dk_43 (dk_at dksX1_execute_4 3 rfl rfl)
theorem dX1_execute_92 : decode cX1_execute 92 = .ok (.iconst 3, 1) := dk_6 (dk_at dksX1_execute_4 4 rfl rfl)
theorem dX1_execute_93 : decode cX1_execute 93 = .ok (.iaload, 1) := dk_46 (dk_at dksX1_execute_4 5 rfl rfl)
theorem dX1_execute_94 : decode cX1_execute 94 = .ok (.iconst 1, 1) := dk_4 (dk_at dksX1_execute_4 6 rfl rfl)
theorem dX1_execute_95 : decode cX1_execute 95 = .ok (.if_icmp .ne 7, 3) := dk_160 0 7 (dk_at dksX1_execute_4 7 rfl rfl)
theorem dX1_execute_98 : decode cX1_execute 98 = .ok (.iconst 1, 1) := dk_4 (dk_at dksX1_execute_4 10 rfl rfl)
theorem dX1_execute_99 : decode cX1_execute 99 = .ok (.goto 4, 3) := dk_167 0 4 (dk_at dksX1_execute_4 11 rfl rfl)
theorem dX1_execute_102 : decode cX1_execute 102 = .ok (.iconst 0, 1) := dk_3 (dk_at dksX1_execute_4 14 rfl rfl)
theorem dX1_execute_103 : decode cX1_execute 103 = .ok (.iconst 0, 1) := dk_3 (dk_at dksX1_execute_4 15 rfl rfl)
theorem dX1_execute_104 : decode cX1_execute 104 = .ok (.invokevirtual 142, 3) := dk_182 0 142 (dk_at dksX1_execute_4 16 rfl rfl)
theorem dX1_execute_107 : decode cX1_execute 107 = .ok (.ireturn, 1) := dk_172 (dk_at dksX1_execute_4 19 rfl rfl)
theorem dX1_execute_108 : decode cX1_execute 108 = .ok (.aload_n 0, 1) := dk_42 (dk_at dksX1_execute_4 20 rfl rfl)
theorem dX1_execute_109 : decode cX1_execute 109 = .ok (.iload_n 2, 1) := dk_28 (dk_at dksX1_execute_4 21 rfl rfl)
theorem dX1_execute_110 : decode cX1_execute 110 = .ok (.iconst 0, 1) := dk_3 (dk_at dksX1_execute_4 22 rfl rfl)
theorem dX1_execute_111 : decode cX1_execute 111 = .ok (.invokevirtual 155, 3) := dk_182 0 155 (dk_at dksX1_execute_5 0 rfl rfl)
theorem dX1_execute_114 : decode cX1_execute 114 = .ok (.ireturn, 1) := dk_172 (dk_at dksX1_execute_5 3 rfl rfl)
theorem dX1_execute_115 : decode cX1_execute 115 = .ok (.aload_n 0, 1) := dk_42 (dk_at dksX1_execute_5 4 rfl rfl)
theorem dX1_execute_116 : decode cX1_execute 116 = .ok (.iload_n 2, 1) := dk_28 (dk_at dksX1_execute_5 5 rfl rfl)
theorem dX1_execute_117 : decode cX1_execute 117 = .ok (.iload 4, 2) := dk_21 4 (dk_at dksX1_execute_5 6 rfl rfl)
theorem dX1_execute_119 : decode cX1_execute 119 = .ok (.ifCond .eq 7, 3) := dk_153 0 7 (dk_at dksX1_execute_5 8 rfl rfl)
theorem dX1_execute_122 : decode cX1_execute 122 = .ok (.iload_n 3, 1) := dk_29 (dk_at dksX1_execute_5 11 rfl rfl)
theorem dX1_execute_123 : decode cX1_execute 123 = .ok (.goto 4, 3) := dk_167 0 4 (dk_at dksX1_execute_5 12 rfl rfl)
theorem dX1_execute_126 : decode cX1_execute 126 = .ok (.iconst (-1), 1) := dk_2 (dk_at dksX1_execute_5 15 rfl rfl)
theorem dX1_execute_127 : decode cX1_execute 127 = .ok (.iconst 0, 1) := dk_3 (dk_at dksX1_execute_5 16 rfl rfl)
theorem dX1_execute_128 : decode cX1_execute 128 = .ok (.invokevirtual 233, 3) := dk_182 0 233 (dk_at dksX1_execute_5 17 rfl rfl)
theorem dX1_execute_131 : decode cX1_execute 131 = .ok (.ireturn, 1) := dk_172 (dk_at dksX1_execute_5 20 rfl rfl)
theorem dX1_execute_132 : decode cX1_execute 132 = .ok (.aload_n 0, 1) := dk_42 (dk_at dksX1_execute_5 21 rfl rfl)
theorem dX1_execute_133 : decode cX1_execute 133 = .ok (.iload_n 2, 1) := dk_28 (dk_at dksX1_execute_5 22 rfl rfl)
theorem dX1_execute_134 : decode cX1_execute 134 = .ok (.iload 4, 2) := dk_21 4 (dk_at dksX1_execute_6 0 rfl rfl)
theorem dX1_execute_136 : decode cX1_execute 136 = .ok (.ifCond .eq 7, 3) := dk_153 0 7 (dk_at dksX1_execute_6 2 rfl rfl)
theorem dX1_execute_139 : decode cX1_execute 139 = .ok (.iload_n 3, 1) := dk_29 (dk_at dksX1_execute_6 5 rfl rfl)
theorem dX1_execute_140 : decode cX1_execute 140 = .ok (.goto 4, 3) := dk_167 0 4 (dk_at dksX1_execute_6 6 rfl rfl)
theorem dX1_execute_143 : decode cX1_execute 143 = .ok (.iconst (-1), 1) := dk_2 (dk_at dksX1_execute_6 9 rfl rfl)
theorem dX1_execute_144 : decode cX1_execute 144 = .ok (.iconst 0, 1) := dk_3 (dk_at dksX1_execute_6 10 rfl rfl)
theorem dX1_execute_145 : decode cX1_execute 145 = .ok (.invokevirtual 236, 3) := dk_182 0 236 (dk_at dksX1_execute_6 11 rfl rfl)
theorem dX1_execute_148 : decode cX1_execute 148 = .ok (.ireturn, 1) := dk_172 (dk_at dksX1_execute_6 14 rfl rfl)
abbrev cX1_undo : ByteArray := prog_1_method_70_code
def yX1_undo : MethodName := ⟨RX1, "undo", "()I"⟩
def dkwX1_undo_2 : List UInt8 := [182, 1, 90, 42, 180, 0, 57, 185, 0, 72, 1, 0, 172]
abbrev dktX1_undo_2 : List UInt8 := dkwX1_undo_2 ++ []
def dkwX1_undo_1 : List UInt8 := [42, 180, 0, 57, 42, 180, 0, 57, 185, 0, 72, 1, 0, 4, 100, 185, 0, 78, 2, 0, 192, 0, 26]
abbrev dktX1_undo_1 : List UInt8 := dkwX1_undo_1 ++ dktX1_undo_2
def dkwX1_undo_0 : List UInt8 := [42, 180, 0, 57, 185, 1, 87, 1, 0, 154, 0, 7, 4, 167, 0, 4, 3, 184, 0, 149, 42, 180, 0, 29]
abbrev dktX1_undo_0 : List UInt8 := dkwX1_undo_0 ++ dktX1_undo_1
theorem dksX1_undo_0 : cX1_undo.data.toList.drop 0 = dktX1_undo_0 := by decide +kernel
theorem dksX1_undo_1 : cX1_undo.data.toList.drop 24 = dktX1_undo_1 := dk_seg dksX1_undo_0 24 rfl rfl
theorem dksX1_undo_2 : cX1_undo.data.toList.drop 47 = dktX1_undo_2 := dk_seg dksX1_undo_1 23 rfl rfl
theorem dX1_undo_0 : decode cX1_undo 0 = .ok (.aload_n 0, 1) := dk_42 (dk_at dksX1_undo_0 0 rfl rfl)
theorem dX1_undo_1 : decode cX1_undo 1 = .ok (.getfield 57, 3) := dk_180 0 57 (dk_at dksX1_undo_0 1 rfl rfl)
theorem dX1_undo_4 : decode cX1_undo 4 = .ok (.invokeinterface 343 1, 5) := by decide +kernel
theorem dX1_undo_9 : decode cX1_undo 9 = .ok (.ifCond .ne 7, 3) := dk_154 0 7 (dk_at dksX1_undo_0 9 rfl rfl)
theorem dX1_undo_12 : decode cX1_undo 12 = .ok (.iconst 1, 1) := dk_4 (dk_at dksX1_undo_0 12 rfl rfl)
theorem dX1_undo_13 : decode cX1_undo 13 = .ok (.goto 4, 3) := dk_167 0 4 (dk_at dksX1_undo_0 13 rfl rfl)
theorem dX1_undo_16 : decode cX1_undo 16 = .ok (.iconst 0, 1) := dk_3 (dk_at dksX1_undo_0 16 rfl rfl)
theorem dX1_undo_17 : decode cX1_undo 17 = .ok (.invokestatic 149, 3) := dk_184 0 149 (dk_at dksX1_undo_0 17 rfl rfl)
theorem dX1_undo_20 : decode cX1_undo 20 = .ok (.aload_n 0, 1) := dk_42 (dk_at dksX1_undo_0 20 rfl rfl)
theorem dX1_undo_21 : decode cX1_undo 21 = .ok (.getfield 29, 3) := dk_180 0 29 (dk_at dksX1_undo_0 21 rfl rfl)
theorem dX1_undo_24 : decode cX1_undo 24 = .ok (.aload_n 0, 1) := dk_42 (dk_at dksX1_undo_1 0 rfl rfl)
theorem dX1_undo_25 : decode cX1_undo 25 = .ok (.getfield 57, 3) := dk_180 0 57 (dk_at dksX1_undo_1 1 rfl rfl)
theorem dX1_undo_28 : decode cX1_undo 28 = .ok (.aload_n 0, 1) := dk_42 (dk_at dksX1_undo_1 4 rfl rfl)
theorem dX1_undo_29 : decode cX1_undo 29 = .ok (.getfield 57, 3) := dk_180 0 57 (dk_at dksX1_undo_1 5 rfl rfl)
theorem dX1_undo_32 : decode cX1_undo 32 = .ok (.invokeinterface 72 1, 5) := by decide +kernel
theorem dX1_undo_37 : decode cX1_undo 37 = .ok (.iconst 1, 1) := dk_4 (dk_at dksX1_undo_1 13 rfl rfl)
theorem dX1_undo_38 : decode cX1_undo 38 = .ok (.isub, 1) := dk_100 (dk_at dksX1_undo_1 14 rfl rfl)
theorem dX1_undo_39 : decode cX1_undo 39 = .ok (.invokeinterface 78 2, 5) := by decide +kernel
theorem dX1_undo_44 : decode cX1_undo 44 = .ok (.checkcast 26, 3) := dk_192 0 26 (dk_at dksX1_undo_1 20 rfl rfl)
theorem dX1_undo_47 : decode cX1_undo 47 = .ok (.invokevirtual 346, 3) := dk_182 1 90 (dk_at dksX1_undo_2 0 rfl rfl)
theorem dX1_undo_50 : decode cX1_undo 50 = .ok (.aload_n 0, 1) := dk_42 (dk_at dksX1_undo_2 3 rfl rfl)
theorem dX1_undo_51 : decode cX1_undo 51 = .ok (.getfield 57, 3) := dk_180 0 57 (dk_at dksX1_undo_2 4 rfl rfl)
theorem dX1_undo_54 : decode cX1_undo 54 = .ok (.invokeinterface 72 1, 5) := by decide +kernel
theorem dX1_undo_59 : decode cX1_undo 59 = .ok (.ireturn, 1) := dk_172 (dk_at dksX1_undo_2 12 rfl rfl)
abbrev cX1_saveState : ByteArray := prog_1_method_72_code
def yX1_saveState : MethodName := ⟨RX1, "saveState", "(I)I"⟩
def dkwX1_saveState_1 : List UInt8 := [180, 0, 37, 182, 0, 152, 172]
abbrev dktX1_saveState_1 : List UInt8 := dkwX1_saveState_1 ++ []
def dkwX1_saveState_0 : List UInt8 := [27, 3, 4, 184, 0, 15, 184, 0, 95, 42, 180, 0, 61, 27, 42, 180, 0, 29, 182, 0, 82, 83, 42]
abbrev dktX1_saveState_0 : List UInt8 := dkwX1_saveState_0 ++ dktX1_saveState_1
theorem dksX1_saveState_0 : cX1_saveState.data.toList.drop 0 = dktX1_saveState_0 := by decide +kernel
theorem dksX1_saveState_1 : cX1_saveState.data.toList.drop 23 = dktX1_saveState_1 := dk_seg dksX1_saveState_0 23 rfl rfl
theorem dX1_saveState_0 : decode cX1_saveState 0 = .ok (.iload_n 1, 1) := dk_27 (dk_at dksX1_saveState_0 0 rfl rfl)
theorem dX1_saveState_1 : decode cX1_saveState 1 = .ok (.iconst 0, 1) := dk_3 (dk_at dksX1_saveState_0 1 rfl rfl)
theorem dX1_saveState_2 : decode cX1_saveState 2 = .ok (.iconst 1, 1) := dk_4 (dk_at dksX1_saveState_0 2 rfl rfl)
theorem dX1_saveState_3 : decode cX1_saveState 3 = .ok (.invokestatic 15, 3) := dk_184 0 15 (dk_at dksX1_saveState_0 3 rfl rfl)
theorem dX1_saveState_6 : decode cX1_saveState 6 = .ok (.invokestatic 95, 3) := dk_184 0 95 (dk_at dksX1_saveState_0 6 rfl rfl)
theorem dX1_saveState_9 : decode cX1_saveState 9 = .ok (.aload_n 0, 1) := dk_42 (dk_at dksX1_saveState_0 9 rfl rfl)
theorem dX1_saveState_10 : decode cX1_saveState 10 = .ok (.getfield 61, 3) := dk_180 0 61 (dk_at dksX1_saveState_0 10 rfl rfl)
theorem dX1_saveState_13 : decode cX1_saveState 13 = .ok (.iload_n 1, 1) := dk_27 (dk_at dksX1_saveState_0 13 rfl rfl)
theorem dX1_saveState_14 : decode cX1_saveState 14 = .ok (.aload_n 0, 1) := dk_42 (dk_at dksX1_saveState_0 14 rfl rfl)
theorem dX1_saveState_15 : decode cX1_saveState 15 = .ok (.getfield 29, 3) := dk_180 0 29 (dk_at dksX1_saveState_0 15 rfl rfl)
theorem dX1_saveState_18 : decode cX1_saveState 18 = .ok (.invokevirtual 82, 3) := dk_182 0 82 (dk_at dksX1_saveState_0 18 rfl rfl)
theorem dX1_saveState_21 : decode cX1_saveState 21 = .ok (.aastore, 1) := dk_83 (dk_at dksX1_saveState_0 21 rfl rfl)
theorem dX1_saveState_22 : decode cX1_saveState 22 = .ok (.aload_n 0, 1) := dk_42 (dk_at dksX1_saveState_0 22 rfl rfl)
theorem dX1_saveState_23 : decode cX1_saveState 23 = .ok (.getfield 37, 3) := dk_180 0 37 (dk_at dksX1_saveState_1 0 rfl rfl)
theorem dX1_saveState_26 : decode cX1_saveState 26 = .ok (.invokevirtual 152, 3) := dk_182 0 152 (dk_at dksX1_saveState_1 3 rfl rfl)
theorem dX1_saveState_29 : decode cX1_saveState 29 = .ok (.ireturn, 1) := dk_172 (dk_at dksX1_saveState_1 6 rfl rfl)
abbrev cX1_loadState : ByteArray := prog_1_method_73_code
def yX1_loadState : MethodName := ⟨RX1, "loadState", "(I)I"⟩
def dkwX1_loadState_2 : List UInt8 := [180, 0, 37, 182, 0, 152, 172]
abbrev dktX1_loadState_2 : List UInt8 := dkwX1_loadState_2 ++ []
def dkwX1_loadState_1 : List UInt8 := [184, 0, 149, 42, 4, 182, 0, 115, 42, 180, 0, 29, 42, 180, 0, 61, 27, 50, 182, 1, 90, 42]
abbrev dktX1_loadState_1 : List UInt8 := dkwX1_loadState_1 ++ dktX1_loadState_2
def dkwX1_loadState_0 : List UInt8 := [27, 3, 4, 184, 0, 15, 184, 0, 95, 42, 180, 0, 61, 27, 50, 198, 0, 7, 4, 167, 0, 4, 3]
abbrev dktX1_loadState_0 : List UInt8 := dkwX1_loadState_0 ++ dktX1_loadState_1
theorem dksX1_loadState_0 : cX1_loadState.data.toList.drop 0 = dktX1_loadState_0 := by decide +kernel
theorem dksX1_loadState_1 : cX1_loadState.data.toList.drop 23 = dktX1_loadState_1 := dk_seg dksX1_loadState_0 23 rfl rfl
theorem dksX1_loadState_2 : cX1_loadState.data.toList.drop 45 = dktX1_loadState_2 := dk_seg dksX1_loadState_1 22 rfl rfl
theorem dX1_loadState_0 : decode cX1_loadState 0 = .ok (.iload_n 1, 1) := dk_27 (dk_at dksX1_loadState_0 0 rfl rfl)
theorem dX1_loadState_1 : decode cX1_loadState 1 = .ok (.iconst 0, 1) := dk_3 (dk_at dksX1_loadState_0 1 rfl rfl)
theorem dX1_loadState_2 : decode cX1_loadState 2 = .ok (.iconst 1, 1) := dk_4 (dk_at dksX1_loadState_0 2 rfl rfl)
theorem dX1_loadState_3 : decode cX1_loadState 3 = .ok (.invokestatic 15, 3) := dk_184 0 15 (dk_at dksX1_loadState_0 3 rfl rfl)
theorem dX1_loadState_6 : decode cX1_loadState 6 = .ok (.invokestatic 95, 3) := dk_184 0 95 (dk_at dksX1_loadState_0 6 rfl rfl)
theorem dX1_loadState_9 : decode cX1_loadState 9 = .ok (.aload_n 0, 1) := dk_42 (dk_at dksX1_loadState_0 9 rfl rfl)
theorem dX1_loadState_10 : decode cX1_loadState 10 = .ok (.getfield 61, 3) := dk_180 0 61 (dk_at dksX1_loadState_0 10 rfl rfl)
theorem dX1_loadState_13 : decode cX1_loadState 13 = .ok (.iload_n 1, 1) := dk_27 (dk_at dksX1_loadState_0 13 rfl rfl)
theorem dX1_loadState_14 : decode cX1_loadState 14 = .ok (.aaload, 1) := dk_50 (dk_at dksX1_loadState_0 14 rfl rfl)
theorem dX1_loadState_15 : decode cX1_loadState 15 = .ok (.ifnull 7, 3) := dk_198 0 7 (dk_at dksX1_loadState_0 15 rfl rfl)
theorem dX1_loadState_18 : decode cX1_loadState 18 = .ok (.iconst 1, 1) := dk_4 (dk_at dksX1_loadState_0 18 rfl rfl)
theorem dX1_loadState_19 : decode cX1_loadState 19 = .ok (.goto 4, 3) := dk_167 0 4 (dk_at dksX1_loadState_0 19 rfl rfl)
theorem dX1_loadState_22 : decode cX1_loadState 22 = .ok (.iconst 0, 1) := dk_3 (dk_at dksX1_loadState_0 22 rfl rfl)
theorem dX1_loadState_23 : decode cX1_loadState 23 = .ok (.invokestatic 149, 3) := dk_184 0 149 (dk_at dksX1_loadState_1 0 rfl rfl)
theorem dX1_loadState_26 : decode cX1_loadState 26 = .ok (.aload_n 0, 1) := dk_42 (dk_at dksX1_loadState_1 3 rfl rfl)
theorem dX1_loadState_27 : decode cX1_loadState 27 = .ok (.iconst 1, 1) := dk_4 (dk_at dksX1_loadState_1 4 rfl rfl)
theorem dX1_loadState_28 : decode cX1_loadState 28 = .ok (.invokevirtual 115, 3) := dk_182 0 115 (dk_at dksX1_loadState_1 5 rfl rfl)
theorem dX1_loadState_31 : decode cX1_loadState 31 = .ok (.aload_n 0, 1) := dk_42 (dk_at dksX1_loadState_1 8 rfl rfl)
theorem dX1_loadState_32 : decode cX1_loadState 32 = .ok (.getfield 29, 3) := dk_180 0 29 (dk_at dksX1_loadState_1 9 rfl rfl)
theorem dX1_loadState_35 : decode cX1_loadState 35 = .ok (.aload_n 0, 1) := dk_42 (dk_at dksX1_loadState_1 12 rfl rfl)
theorem dX1_loadState_36 : decode cX1_loadState 36 = .ok (.getfield 61, 3) := dk_180 0 61 (dk_at dksX1_loadState_1 13 rfl rfl)
theorem dX1_loadState_39 : decode cX1_loadState 39 = .ok (.iload_n 1, 1) := dk_27 (dk_at dksX1_loadState_1 16 rfl rfl)
theorem dX1_loadState_40 : decode cX1_loadState 40 = .ok (.aaload, 1) := dk_50 (dk_at dksX1_loadState_1 17 rfl rfl)
theorem dX1_loadState_41 : decode cX1_loadState 41 = .ok (.invokevirtual 346, 3) := dk_182 1 90 (dk_at dksX1_loadState_1 18 rfl rfl)
theorem dX1_loadState_44 : decode cX1_loadState 44 = .ok (.aload_n 0, 1) := dk_42 (dk_at dksX1_loadState_1 21 rfl rfl)
theorem dX1_loadState_45 : decode cX1_loadState 45 = .ok (.getfield 37, 3) := dk_180 0 37 (dk_at dksX1_loadState_2 0 rfl rfl)
theorem dX1_loadState_48 : decode cX1_loadState 48 = .ok (.invokevirtual 152, 3) := dk_182 0 152 (dk_at dksX1_loadState_2 3 rfl rfl)
theorem dX1_loadState_51 : decode cX1_loadState 51 = .ok (.ireturn, 1) := dk_172 (dk_at dksX1_loadState_2 6 rfl rfl)
theorem q119 : (Jvm.Cond.initialized "EdgeLetters") ∈ lw_all := lw_g (lw_at lw_m1 1 rfl) rfl
theorem q154 : (Jvm.Cond.instantiable "EdgeLetters" (8 : Nat)) ∈ lw_all := lw_g (lw_at lw_m1 36 rfl) rfl
theorem q156 : (Jvm.Cond.instanceMethod ({ cls := "EdgeLetters", name := "<init>", desc := "()V" } : Jvm.MethodName)) ∈ lw_all := lw_g (lw_at lw_m1 38 rfl) rfl
theorem q157 : (Jvm.Cond.code ({ cls := "EdgeLetters", name := "<init>", desc := "()V" } : Jvm.MethodName) prog_1_method_9_code (1 : Nat) (Option.none : Option Jvm.ClassFile.FieldType)) ∈ lw_all := lw_g (lw_at lw_m1 39 rfl) rfl
theorem q158 : (Jvm.Cond.methodLink "EdgeLetters" (23 : Nat) ({ cls := "java/lang/Object", name := "<init>", desc := "()V" } : Jvm.MethodName)) ∈ lw_all := lw_g (lw_at lw_m1 40 rfl) rfl
theorem q161 : (Jvm.Cond.classLink "EdgeLetters" (26 : Nat) "EdgeLetters$Desk") ∈ lw_all := lw_g (lw_at lw_m1 43 rfl) rfl
theorem q163 : (Jvm.Cond.methodLinkNest "EdgeLetters" (28 : Nat) ({ cls := "EdgeLetters$Desk", name := "<init>", desc := "()V" } : Jvm.MethodName) "EdgeLetters") ∈ lw_tbl := lw_at lw_m1 45 rfl
theorem q261 : (Jvm.Cond.selects "EdgeLetters" ({ cls := "java/lang/Object", name := "getClass", desc := "()Ljava/lang/Class;" } : Jvm.MethodName) ({ cls := "java/lang/Object", name := "getClass", desc := "()Ljava/lang/Class;" } : Jvm.MethodName)) ∈ lw_all := lw_g (lw_at lw_m1 143 rfl) rfl
theorem q298 : (Jvm.Cond.static ({ cls := "EdgeLetters", name := "has", desc := "(II)Z" } : Jvm.MethodName)) ∈ lw_all := lw_g (lw_at lw_m1 180 rfl) rfl
theorem q299 : (Jvm.Cond.code ({ cls := "EdgeLetters", name := "has", desc := "(II)Z" } : Jvm.MethodName) prog_1_method_2_code (2 : Nat) (Option.some Jvm.ClassFile.FieldType.boolean)) ∈ lw_all := lw_g (lw_at lw_m1 181 rfl) rfl
theorem q322 : (Jvm.Cond.fieldLinkNest "EdgeLetters" (145 : Nat) "EdgeLetters$Puzzle" "tellings" "[I" "EdgeLetters") ∈ lw_tbl := lw_at lw_m1 204 rfl
theorem q325 : (Jvm.Cond.fieldLinkNest "EdgeLetters" (162 : Nat) "EdgeLetters$Puzzle" "lines" "[[I" "EdgeLetters") ∈ lw_tbl := lw_at lw_m1 207 rfl
theorem q332 : (Jvm.Cond.fieldLinkNest "EdgeLetters" (108 : Nat) "EdgeLetters$Puzzle" "side" "I" "EdgeLetters") ∈ lw_tbl := lw_at lw_m1 214 rfl
theorem q335 : (Jvm.Cond.fieldLinkNest "EdgeLetters" (112 : Nat) "EdgeLetters$Puzzle" "letters" "I" "EdgeLetters") ∈ lw_tbl := lw_at lw_m1 217 rfl
theorem q337 : (Jvm.Cond.fieldLinkNest "EdgeLetters" (212 : Nat) "EdgeLetters$Puzzle" "seconds" "I" "EdgeLetters") ∈ lw_tbl := lw_at lw_m1 219 rfl
theorem q339 : (Jvm.Cond.fieldLinkNest "EdgeLetters" (128 : Nat) "EdgeLetters$Puzzle" "diagonals" "Z" "EdgeLetters") ∈ lw_tbl := lw_at lw_m1 221 rfl
theorem q378 : (Jvm.Cond.fieldLinkNest "EdgeLetters" (159 : Nat) "EdgeLetters$Board" "things" "[I" "EdgeLetters") ∈ lw_tbl := lw_at lw_m2 20 rfl
theorem q388 : (Jvm.Cond.fieldLinkNest "EdgeLetters" (33 : Nat) "EdgeLetters$Desk" "puzzle" "LEdgeLetters$Puzzle;" "EdgeLetters") ∈ lw_tbl := lw_at lw_m2 30 rfl
theorem q390 : (Jvm.Cond.fieldLinkNest "EdgeLetters" (38 : Nat) "EdgeLetters$Desk" "board" "LEdgeLetters$Board;" "EdgeLetters") ∈ lw_tbl := lw_at lw_m2 32 rfl
theorem q396 : (Jvm.Cond.classLink "EdgeLetters" (43 : Nat) "EdgeLetters$Board") ∈ lw_all := lw_g (lw_at lw_m2 38 rfl) rfl
theorem q397 : (Jvm.Cond.methodLink "EdgeLetters" (45 : Nat) ({ cls := "EdgeLetters$Board", name := "<init>", desc := "(LEdgeLetters$Puzzle;)V" } : Jvm.MethodName)) ∈ lw_all := lw_g (lw_at lw_m2 39 rfl) rfl
theorem q398 : (Jvm.Cond.classLink "EdgeLetters" (54 : Nat) "java/util/ArrayList") ∈ lw_all := lw_g (lw_at lw_m2 40 rfl) rfl
theorem q399 : (Jvm.Cond.methodLink "EdgeLetters" (56 : Nat) ({ cls := "java/util/ArrayList", name := "<init>", desc := "()V" } : Jvm.MethodName)) ∈ lw_all := lw_g (lw_at lw_m2 41 rfl) rfl
theorem q401 : (Jvm.Cond.classLink "EdgeLetters" (65 : Nat) "java/lang/StringBuilder") ∈ lw_all := lw_g (lw_at lw_m2 43 rfl) rfl
theorem q403 : (Jvm.Cond.methodLink "EdgeLetters" (67 : Nat) ({ cls := "java/lang/StringBuilder", name := "<init>", desc := "()V" } : Jvm.MethodName)) ∈ lw_all := lw_g (lw_at lw_m2 45 rfl) rfl
theorem q434 : (Jvm.Cond.fieldLink "EdgeLetters" (29 : Nat) "EdgeLetters" "desk" "LEdgeLetters$Desk;") ∈ lw_all := lw_g (lw_at lw_m2 76 rfl) rfl
theorem q435 : (Jvm.Cond.fieldLink "EdgeLetters" (37 : Nat) "EdgeLetters" "puzzle" "LEdgeLetters$Puzzle;") ∈ lw_all := lw_g (lw_at lw_m2 77 rfl) rfl
theorem q436 : (Jvm.Cond.fieldLink "EdgeLetters" (42 : Nat) "EdgeLetters" "board" "LEdgeLetters$Board;") ∈ lw_all := lw_g (lw_at lw_m2 78 rfl) rfl
theorem q437 : (Jvm.Cond.fieldLink "EdgeLetters" (48 : Nat) "EdgeLetters" "trial" "LEdgeLetters$Board;") ∈ lw_all := lw_g (lw_at lw_m2 79 rfl) rfl
theorem q438 : (Jvm.Cond.fieldLink "EdgeLetters" (51 : Nat) "EdgeLetters" "further" "LEdgeLetters$Board;") ∈ lw_all := lw_g (lw_at lw_m2 80 rfl) rfl
theorem q439 : (Jvm.Cond.fieldLink "EdgeLetters" (57 : Nat) "EdgeLetters" "history" "Ljava/util/List;") ∈ lw_all := lw_g (lw_at lw_m2 81 rfl) rfl
theorem q440 : (Jvm.Cond.fieldLink "EdgeLetters" (61 : Nat) "EdgeLetters" "slots" "[LEdgeLetters$Desk;") ∈ lw_all := lw_g (lw_at lw_m2 82 rfl) rfl
theorem q442 : (Jvm.Cond.fieldLink "EdgeLetters" (68 : Nat) "EdgeLetters" "text" "Ljava/lang/StringBuilder;") ∈ lw_all := lw_g (lw_at lw_m2 84 rfl) rfl
theorem q443 : (Jvm.Cond.laysFinal "EdgeLetters" "EdgeLetters" "desk" "LEdgeLetters$Desk;") ∈ lw_all := lw_g (lw_at lw_m2 85 rfl) rfl
theorem q444 : (Jvm.Cond.soleField "EdgeLetters" "desk") ∈ lw_all := lw_g (lw_at lw_m2 86 rfl) rfl
theorem q445 : (Jvm.Cond.laysFinal "EdgeLetters" "EdgeLetters" "puzzle" "LEdgeLetters$Puzzle;") ∈ lw_all := lw_g (lw_at lw_m2 87 rfl) rfl
theorem q446 : (Jvm.Cond.soleField "EdgeLetters" "puzzle") ∈ lw_all := lw_g (lw_at lw_m2 88 rfl) rfl
theorem q447 : (Jvm.Cond.laysFinal "EdgeLetters" "EdgeLetters" "board" "LEdgeLetters$Board;") ∈ lw_all := lw_g (lw_at lw_m2 89 rfl) rfl
theorem q448 : (Jvm.Cond.soleField "EdgeLetters" "board") ∈ lw_all := lw_g (lw_at lw_m2 90 rfl) rfl
theorem q449 : (Jvm.Cond.laysFinal "EdgeLetters" "EdgeLetters" "trial" "LEdgeLetters$Board;") ∈ lw_all := lw_g (lw_at lw_m2 91 rfl) rfl
theorem q450 : (Jvm.Cond.soleField "EdgeLetters" "trial") ∈ lw_all := lw_g (lw_at lw_m2 92 rfl) rfl
theorem q451 : (Jvm.Cond.laysFinal "EdgeLetters" "EdgeLetters" "further" "LEdgeLetters$Board;") ∈ lw_all := lw_g (lw_at lw_m2 93 rfl) rfl
theorem q452 : (Jvm.Cond.soleField "EdgeLetters" "further") ∈ lw_all := lw_g (lw_at lw_m2 94 rfl) rfl
theorem q453 : (Jvm.Cond.laysFinal "EdgeLetters" "EdgeLetters" "history" "Ljava/util/List;") ∈ lw_all := lw_g (lw_at lw_m2 95 rfl) rfl
theorem q454 : (Jvm.Cond.soleField "EdgeLetters" "history") ∈ lw_all := lw_g (lw_at lw_m2 96 rfl) rfl
theorem q455 : (Jvm.Cond.laysFinal "EdgeLetters" "EdgeLetters" "slots" "[LEdgeLetters$Desk;") ∈ lw_all := lw_g (lw_at lw_m2 97 rfl) rfl
theorem q456 : (Jvm.Cond.soleField "EdgeLetters" "slots") ∈ lw_all := lw_g (lw_at lw_m2 98 rfl) rfl
theorem q457 : (Jvm.Cond.laysFinal "EdgeLetters" "EdgeLetters" "text" "Ljava/lang/StringBuilder;") ∈ lw_all := lw_g (lw_at lw_m2 99 rfl) rfl
theorem q458 : (Jvm.Cond.soleField "EdgeLetters" "text") ∈ lw_all := lw_g (lw_at lw_m2 100 rfl) rfl
theorem q459 : (Jvm.Cond.superclass "EdgeLetters" "java/lang/Object") ∈ lw_all := lw_g (lw_at lw_m2 101 rfl) rfl
theorem q461 : (Jvm.Cond.instanceMethod ({ cls := "EdgeLetters", name := "turnDiagonals", desc := "()Z" } : Jvm.MethodName)) ∈ lw_all := lw_g (lw_at lw_m2 103 rfl) rfl
theorem q462 : (Jvm.Cond.selects "EdgeLetters" ({ cls := "EdgeLetters", name := "turnDiagonals", desc := "()Z" } : Jvm.MethodName) ({ cls := "EdgeLetters", name := "turnDiagonals", desc := "()Z" } : Jvm.MethodName)) ∈ lw_all := lw_g (lw_at lw_m2 104 rfl) rfl
theorem q463 : (Jvm.Cond.code ({ cls := "EdgeLetters", name := "turnDiagonals", desc := "()Z" } : Jvm.MethodName) prog_1_method_18_code (1 : Nat) (Option.some Jvm.ClassFile.FieldType.boolean)) ∈ lw_all := lw_g (lw_at lw_m2 105 rfl) rfl
theorem q464 : (Jvm.Cond.methodLink "EdgeLetters" (115 : Nat) ({ cls := "EdgeLetters", name := "recordIf", desc := "(Z)V" } : Jvm.MethodName)) ∈ lw_all := lw_g (lw_at lw_m2 106 rfl) rfl
theorem q465 : (Jvm.Cond.privateMethod ({ cls := "EdgeLetters", name := "recordIf", desc := "(Z)V" } : Jvm.MethodName)) ∈ lw_tbl := lw_at lw_m2 107 rfl
theorem q466 : (Jvm.Cond.instanceMethod ({ cls := "EdgeLetters", name := "recordIf", desc := "(Z)V" } : Jvm.MethodName)) ∈ lw_all := lw_g (lw_at lw_m2 108 rfl) rfl
theorem q467 : (Jvm.Cond.code ({ cls := "EdgeLetters", name := "recordIf", desc := "(Z)V" } : Jvm.MethodName) prog_1_method_10_code (3 : Nat) (Option.none : Option Jvm.ClassFile.FieldType)) ∈ lw_all := lw_g (lw_at lw_m2 109 rfl) rfl
theorem q468 : (Jvm.Cond.interfaceEntry "EdgeLetters" (72 : Nat)) ∈ lw_tbl := lw_at lw_m2 110 rfl
theorem q469 : (Jvm.Cond.methodLink "EdgeLetters" (72 : Nat) ({ cls := "java/util/List", name := "size", desc := "()I" } : Jvm.MethodName)) ∈ lw_all := lw_g (lw_at lw_m2 111 rfl) rfl
theorem q477 : (Jvm.Cond.interfaceEntry "EdgeLetters" (78 : Nat)) ∈ lw_tbl := lw_at lw_m2 119 rfl
theorem q478 : (Jvm.Cond.methodLink "EdgeLetters" (78 : Nat) ({ cls := "java/util/List", name := "remove", desc := "(I)Ljava/lang/Object;" } : Jvm.MethodName)) ∈ lw_all := lw_g (lw_at lw_m2 120 rfl) rfl
theorem q497 : (Jvm.Cond.methodLink "EdgeLetters" (82 : Nat) ({ cls := "EdgeLetters$Desk", name := "copy", desc := "()LEdgeLetters$Desk;" } : Jvm.MethodName)) ∈ lw_all := lw_g (lw_at lw_m2 139 rfl) rfl
theorem q517 : (Jvm.Cond.interfaceEntry "EdgeLetters" (86 : Nat)) ∈ lw_tbl := lw_at lw_m2 159 rfl
theorem q518 : (Jvm.Cond.methodLink "EdgeLetters" (86 : Nat) ({ cls := "java/util/List", name := "add", desc := "(Ljava/lang/Object;)Z" } : Jvm.MethodName)) ∈ lw_all := lw_g (lw_at lw_m2 160 rfl) rfl
theorem q519 : (Jvm.Cond.methodLink "EdgeLetters" (125 : Nat) ({ cls := "EdgeLetters$Puzzle", name := "turnDiagonals", desc := "()V" } : Jvm.MethodName)) ∈ lw_all := lw_g (lw_at lw_m2 161 rfl) rfl
theorem q524 : (Jvm.Cond.instanceMethod ({ cls := "EdgeLetters", name := "tellFirsts", desc := "()I" } : Jvm.MethodName)) ∈ lw_all := lw_g (lw_at lw_m2 166 rfl) rfl
theorem q525 : (Jvm.Cond.selects "EdgeLetters" ({ cls := "EdgeLetters", name := "tellFirsts", desc := "()I" } : Jvm.MethodName) ({ cls := "EdgeLetters", name := "tellFirsts", desc := "()I" } : Jvm.MethodName)) ∈ lw_all := lw_g (lw_at lw_m2 167 rfl) rfl
theorem q526 : (Jvm.Cond.code ({ cls := "EdgeLetters", name := "tellFirsts", desc := "()I" } : Jvm.MethodName) prog_1_method_25_code (4 : Nat) (Option.some Jvm.ClassFile.FieldType.int)) ∈ lw_all := lw_g (lw_at lw_m2 168 rfl) rfl
theorem q527 : (Jvm.Cond.methodLink "EdgeLetters" (90 : Nat) ({ cls := "EdgeLetters$Puzzle", name := "edgeCount", desc := "()I" } : Jvm.MethodName)) ∈ lw_all := lw_g (lw_at lw_m2 169 rfl) rfl
theorem q531 : (Jvm.Cond.methodLink "EdgeLetters" (179 : Nat) ({ cls := "EdgeLetters$Puzzle", name := "lineAt", desc := "(I)I" } : Jvm.MethodName)) ∈ lw_all := lw_g (lw_at lw_m2 173 rfl) rfl
theorem q535 : (Jvm.Cond.methodLink "EdgeLetters" (182 : Nat) ({ cls := "EdgeLetters", name := "settledLine", desc := "(I)[I" } : Jvm.MethodName)) ∈ lw_all := lw_g (lw_at lw_m2 177 rfl) rfl
theorem q536 : (Jvm.Cond.privateMethod ({ cls := "EdgeLetters", name := "settledLine", desc := "(I)[I" } : Jvm.MethodName)) ∈ lw_tbl := lw_at lw_m2 178 rfl
theorem q537 : (Jvm.Cond.instanceMethod ({ cls := "EdgeLetters", name := "settledLine", desc := "(I)[I" } : Jvm.MethodName)) ∈ lw_all := lw_g (lw_at lw_m2 179 rfl) rfl
theorem q538 : (Jvm.Cond.code ({ cls := "EdgeLetters", name := "settledLine", desc := "(I)[I" } : Jvm.MethodName) prog_1_method_23_code (5 : Nat) (Option.some (Jvm.ClassFile.FieldType.array Jvm.ClassFile.FieldType.int))) ∈ lw_all := lw_g (lw_at lw_m2 180 rfl) rfl
theorem q539 : (Jvm.Cond.methodLink "EdgeLetters" (166 : Nat) ({ cls := "EdgeLetters", name := "isSingle", desc := "(I)Z" } : Jvm.MethodName)) ∈ lw_all := lw_g (lw_at lw_m2 181 rfl) rfl
theorem q540 : (Jvm.Cond.static ({ cls := "EdgeLetters", name := "isSingle", desc := "(I)Z" } : Jvm.MethodName)) ∈ lw_all := lw_g (lw_at lw_m2 182 rfl) rfl
theorem q541 : (Jvm.Cond.code ({ cls := "EdgeLetters", name := "isSingle", desc := "(I)Z" } : Jvm.MethodName) prog_1_method_3_code (1 : Nat) (Option.some Jvm.ClassFile.FieldType.boolean)) ∈ lw_all := lw_g (lw_at lw_m2 183 rfl) rfl
theorem q542 : (Jvm.Cond.methodLink "EdgeLetters" (170 : Nat) ({ cls := "java/lang/Integer", name := "numberOfTrailingZeros", desc := "(I)I" } : Jvm.MethodName)) ∈ lw_all := lw_g (lw_at lw_m2 184 rfl) rfl
theorem q546 : (Jvm.Cond.methodLink "EdgeLetters" (186 : Nat) ({ cls := "EdgeLetters", name := "isComplete", desc := "([I)Z" } : Jvm.MethodName)) ∈ lw_all := lw_g (lw_at lw_m2 188 rfl) rfl
theorem q547 : (Jvm.Cond.privateMethod ({ cls := "EdgeLetters", name := "isComplete", desc := "([I)Z" } : Jvm.MethodName)) ∈ lw_tbl := lw_at lw_m2 189 rfl
theorem q548 : (Jvm.Cond.instanceMethod ({ cls := "EdgeLetters", name := "isComplete", desc := "([I)Z" } : Jvm.MethodName)) ∈ lw_all := lw_g (lw_at lw_m2 190 rfl) rfl
theorem q549 : (Jvm.Cond.code ({ cls := "EdgeLetters", name := "isComplete", desc := "([I)Z" } : Jvm.MethodName) prog_1_method_24_code (8 : Nat) (Option.some Jvm.ClassFile.FieldType.boolean)) ∈ lw_all := lw_g (lw_at lw_m2 191 rfl) rfl
theorem q550 : (Jvm.Cond.methodLink "EdgeLetters" (176 : Nat) ({ cls := "EdgeLetters$Board", name := "everything", desc := "()I" } : Jvm.MethodName)) ∈ lw_all := lw_g (lw_at lw_m2 192 rfl) rfl
theorem q551 : (Jvm.Cond.methodLink "EdgeLetters" (190 : Nat) ({ cls := "EdgeLetters$Puzzle", name := "looksBack", desc := "(I)Z" } : Jvm.MethodName)) ∈ lw_all := lw_g (lw_at lw_m2 193 rfl) rfl
theorem q555 : (Jvm.Cond.methodLink "EdgeLetters" (193 : Nat) ({ cls := "EdgeLetters", name := "seen", desc := "(IIZ[I)I" } : Jvm.MethodName)) ∈ lw_all := lw_g (lw_at lw_m2 197 rfl) rfl
theorem q556 : (Jvm.Cond.static ({ cls := "EdgeLetters", name := "seen", desc := "(IIZ[I)I" } : Jvm.MethodName)) ∈ lw_all := lw_g (lw_at lw_m2 198 rfl) rfl
theorem q557 : (Jvm.Cond.code ({ cls := "EdgeLetters", name := "seen", desc := "(IIZ[I)I" } : Jvm.MethodName) prog_1_method_8_code (7 : Nat) (Option.some Jvm.ClassFile.FieldType.int)) ∈ lw_all := lw_g (lw_at lw_m2 199 rfl) rfl
theorem q558 : (Jvm.Cond.methodLink "EdgeLetters" (138 : Nat) ({ cls := "EdgeLetters$Puzzle", name := "tell", desc := "(IIZ)I" } : Jvm.MethodName)) ∈ lw_all := lw_g (lw_at lw_m2 200 rfl) rfl
theorem q562 : (Jvm.Cond.methodLink "EdgeLetters" (152 : Nat) ({ cls := "EdgeLetters$Puzzle", name := "told", desc := "()I" } : Jvm.MethodName)) ∈ lw_all := lw_g (lw_at lw_m2 204 rfl) rfl
theorem q568 : (Jvm.Cond.instanceMethod ({ cls := "EdgeLetters", name := "mirror", desc := "()I" } : Jvm.MethodName)) ∈ lw_all := lw_g (lw_at lw_m2 210 rfl) rfl
theorem q569 : (Jvm.Cond.selects "EdgeLetters" ({ cls := "EdgeLetters", name := "mirror", desc := "()I" } : Jvm.MethodName) ({ cls := "EdgeLetters", name := "mirror", desc := "()I" } : Jvm.MethodName)) ∈ lw_all := lw_g (lw_at lw_m2 211 rfl) rfl
theorem q570 : (Jvm.Cond.code ({ cls := "EdgeLetters", name := "mirror", desc := "()I" } : Jvm.MethodName) prog_1_method_27_code (5 : Nat) (Option.some Jvm.ClassFile.FieldType.int)) ∈ lw_all := lw_g (lw_at lw_m2 212 rfl) rfl
theorem q571 : (Jvm.Cond.methodLink "EdgeLetters" (205 : Nat) ({ cls := "EdgeLetters$Board", name := "setThings", desc := "(LEdgeLetters$Board;)V" } : Jvm.MethodName)) ∈ lw_all := lw_g (lw_at lw_m2 213 rfl) rfl
theorem q572 : (Jvm.Cond.methodLink "EdgeLetters" (98 : Nat) ({ cls := "EdgeLetters$Puzzle", name := "cellCount", desc := "()I" } : Jvm.MethodName)) ∈ lw_all := lw_g (lw_at lw_m2 214 rfl) rfl
theorem q573 : (Jvm.Cond.methodLink "EdgeLetters" (209 : Nat) ({ cls := "EdgeLetters$Puzzle", name := "mirrored", desc := "(I)I" } : Jvm.MethodName)) ∈ lw_all := lw_g (lw_at lw_m2 215 rfl) rfl
theorem q577 : (Jvm.Cond.methodLink "EdgeLetters" (215 : Nat) ({ cls := "java/lang/System", name := "arraycopy", desc := "(Ljava/lang/Object;ILjava/lang/Object;II)V" } : Jvm.MethodName)) ∈ lw_all := lw_g (lw_at lw_m2 219 rfl) rfl
theorem q578 : (Jvm.Cond.methodLink "EdgeLetters" (221 : Nat) ({ cls := "EdgeLetters$Puzzle", name := "mirroredEdge", desc := "(I)I" } : Jvm.MethodName)) ∈ lw_all := lw_g (lw_at lw_m2 220 rfl) rfl
theorem q582 : (Jvm.Cond.methodLink "EdgeLetters" (197 : Nat) ({ cls := "EdgeLetters", name := "has", desc := "(II)Z" } : Jvm.MethodName)) ∈ lw_all := lw_g (lw_at lw_m2 224 rfl) rfl
theorem q584 : (Jvm.Cond.instanceMethod ({ cls := "EdgeLetters", name := "side", desc := "()I" } : Jvm.MethodName)) ∈ lw_all := lw_g (lw_at lw_m2 226 rfl) rfl
theorem q585 : (Jvm.Cond.selects "EdgeLetters" ({ cls := "EdgeLetters", name := "side", desc := "()I" } : Jvm.MethodName) ({ cls := "EdgeLetters", name := "side", desc := "()I" } : Jvm.MethodName)) ∈ lw_all := lw_g (lw_at lw_m2 227 rfl) rfl
theorem q586 : (Jvm.Cond.code ({ cls := "EdgeLetters", name := "side", desc := "()I" } : Jvm.MethodName) prog_1_method_28_code (1 : Nat) (Option.some Jvm.ClassFile.FieldType.int)) ∈ lw_all := lw_g (lw_at lw_m2 228 rfl) rfl
theorem q588 : (Jvm.Cond.instanceMethod ({ cls := "EdgeLetters", name := "letterCount", desc := "()I" } : Jvm.MethodName)) ∈ lw_all := lw_g (lw_at lw_m2 230 rfl) rfl
theorem q589 : (Jvm.Cond.selects "EdgeLetters" ({ cls := "EdgeLetters", name := "letterCount", desc := "()I" } : Jvm.MethodName) ({ cls := "EdgeLetters", name := "letterCount", desc := "()I" } : Jvm.MethodName)) ∈ lw_all := lw_g (lw_at lw_m2 231 rfl) rfl
theorem q590 : (Jvm.Cond.code ({ cls := "EdgeLetters", name := "letterCount", desc := "()I" } : Jvm.MethodName) prog_1_method_29_code (1 : Nat) (Option.some Jvm.ClassFile.FieldType.int)) ∈ lw_all := lw_g (lw_at lw_m2 232 rfl) rfl
theorem q592 : (Jvm.Cond.instanceMethod ({ cls := "EdgeLetters", name := "lineCount", desc := "()I" } : Jvm.MethodName)) ∈ lw_all := lw_g (lw_at lw_m2 234 rfl) rfl
theorem q593 : (Jvm.Cond.selects "EdgeLetters" ({ cls := "EdgeLetters", name := "lineCount", desc := "()I" } : Jvm.MethodName) ({ cls := "EdgeLetters", name := "lineCount", desc := "()I" } : Jvm.MethodName)) ∈ lw_all := lw_g (lw_at lw_m2 235 rfl) rfl
theorem q594 : (Jvm.Cond.code ({ cls := "EdgeLetters", name := "lineCount", desc := "()I" } : Jvm.MethodName) prog_1_method_30_code (1 : Nat) (Option.some Jvm.ClassFile.FieldType.int)) ∈ lw_all := lw_g (lw_at lw_m2 236 rfl) rfl
theorem q595 : (Jvm.Cond.methodLink "EdgeLetters" (101 : Nat) ({ cls := "EdgeLetters$Puzzle", name := "lineCount", desc := "()I" } : Jvm.MethodName)) ∈ lw_all := lw_g (lw_at lw_m2 237 rfl) rfl
theorem q597 : (Jvm.Cond.instanceMethod ({ cls := "EdgeLetters", name := "tellingCount", desc := "()I" } : Jvm.MethodName)) ∈ lw_all := lw_g (lw_at lw_m2 239 rfl) rfl
theorem q598 : (Jvm.Cond.selects "EdgeLetters" ({ cls := "EdgeLetters", name := "tellingCount", desc := "()I" } : Jvm.MethodName) ({ cls := "EdgeLetters", name := "tellingCount", desc := "()I" } : Jvm.MethodName)) ∈ lw_all := lw_g (lw_at lw_m3 0 rfl) rfl
theorem q599 : (Jvm.Cond.code ({ cls := "EdgeLetters", name := "tellingCount", desc := "()I" } : Jvm.MethodName) prog_1_method_31_code (1 : Nat) (Option.some Jvm.ClassFile.FieldType.int)) ∈ lw_all := lw_g (lw_at lw_m3 1 rfl) rfl
theorem q601 : (Jvm.Cond.instanceMethod ({ cls := "EdgeLetters", name := "clearCells", desc := "()I" } : Jvm.MethodName)) ∈ lw_all := lw_g (lw_at lw_m3 3 rfl) rfl
theorem q602 : (Jvm.Cond.selects "EdgeLetters" ({ cls := "EdgeLetters", name := "clearCells", desc := "()I" } : Jvm.MethodName) ({ cls := "EdgeLetters", name := "clearCells", desc := "()I" } : Jvm.MethodName)) ∈ lw_all := lw_g (lw_at lw_m3 4 rfl) rfl
theorem q603 : (Jvm.Cond.code ({ cls := "EdgeLetters", name := "clearCells", desc := "()I" } : Jvm.MethodName) prog_1_method_39_code (1 : Nat) (Option.some Jvm.ClassFile.FieldType.int)) ∈ lw_all := lw_g (lw_at lw_m3 5 rfl) rfl
theorem q604 : (Jvm.Cond.methodLink "EdgeLetters" (122 : Nat) ({ cls := "EdgeLetters$Board", name := "clear", desc := "()I" } : Jvm.MethodName)) ∈ lw_all := lw_g (lw_at lw_m3 6 rfl) rfl
theorem q606 : (Jvm.Cond.instanceMethod ({ cls := "EdgeLetters", name := "settled", desc := "()J" } : Jvm.MethodName)) ∈ lw_all := lw_g (lw_at lw_m3 8 rfl) rfl
theorem q607 : (Jvm.Cond.selects "EdgeLetters" ({ cls := "EdgeLetters", name := "settled", desc := "()J" } : Jvm.MethodName) ({ cls := "EdgeLetters", name := "settled", desc := "()J" } : Jvm.MethodName)) ∈ lw_all := lw_g (lw_at lw_m3 9 rfl) rfl
theorem q608 : (Jvm.Cond.code ({ cls := "EdgeLetters", name := "settled", desc := "()J" } : Jvm.MethodName) prog_1_method_42_code (4 : Nat) (Option.some Jvm.ClassFile.FieldType.long)) ∈ lw_all := lw_g (lw_at lw_m3 10 rfl) rfl
theorem q609 : (Jvm.Cond.methodLink "EdgeLetters" (239 : Nat) ({ cls := "EdgeLetters$Board", name := "isSettled", desc := "(I)Z" } : Jvm.MethodName)) ∈ lw_all := lw_g (lw_at lw_m3 11 rfl) rfl
theorem q615 : (Jvm.Cond.instanceMethod ({ cls := "EdgeLetters", name := "isBroken", desc := "()Z" } : Jvm.MethodName)) ∈ lw_all := lw_g (lw_at lw_m3 17 rfl) rfl
theorem q616 : (Jvm.Cond.selects "EdgeLetters" ({ cls := "EdgeLetters", name := "isBroken", desc := "()Z" } : Jvm.MethodName) ({ cls := "EdgeLetters", name := "isBroken", desc := "()Z" } : Jvm.MethodName)) ∈ lw_all := lw_g (lw_at lw_m3 18 rfl) rfl
theorem q617 : (Jvm.Cond.code ({ cls := "EdgeLetters", name := "isBroken", desc := "()Z" } : Jvm.MethodName) prog_1_method_43_code (1 : Nat) (Option.some Jvm.ClassFile.FieldType.boolean)) ∈ lw_all := lw_g (lw_at lw_m3 19 rfl) rfl
theorem q618 : (Jvm.Cond.methodLink "EdgeLetters" (242 : Nat) ({ cls := "EdgeLetters$Board", name := "isBroken", desc := "()Z" } : Jvm.MethodName)) ∈ lw_all := lw_g (lw_at lw_m3 20 rfl) rfl
theorem q671 : (Jvm.Cond.instanceMethod ({ cls := "EdgeLetters", name := "isSolved", desc := "()Z" } : Jvm.MethodName)) ∈ lw_all := lw_g (lw_at lw_m3 73 rfl) rfl
theorem q672 : (Jvm.Cond.selects "EdgeLetters" ({ cls := "EdgeLetters", name := "isSolved", desc := "()Z" } : Jvm.MethodName) ({ cls := "EdgeLetters", name := "isSolved", desc := "()Z" } : Jvm.MethodName)) ∈ lw_all := lw_g (lw_at lw_m3 74 rfl) rfl
theorem q673 : (Jvm.Cond.code ({ cls := "EdgeLetters", name := "isSolved", desc := "()Z" } : Jvm.MethodName) prog_1_method_44_code (1 : Nat) (Option.some Jvm.ClassFile.FieldType.boolean)) ∈ lw_all := lw_g (lw_at lw_m3 75 rfl) rfl
theorem q674 : (Jvm.Cond.methodLink "EdgeLetters" (246 : Nat) ({ cls := "EdgeLetters$Board", name := "isSolved", desc := "()Z" } : Jvm.MethodName)) ∈ lw_all := lw_g (lw_at lw_m3 76 rfl) rfl
theorem q681 : (Jvm.Cond.instanceMethod ({ cls := "EdgeLetters", name := "brokenLines", desc := "()I" } : Jvm.MethodName)) ∈ lw_all := lw_g (lw_at lw_m3 83 rfl) rfl
theorem q682 : (Jvm.Cond.selects "EdgeLetters" ({ cls := "EdgeLetters", name := "brokenLines", desc := "()I" } : Jvm.MethodName) ({ cls := "EdgeLetters", name := "brokenLines", desc := "()I" } : Jvm.MethodName)) ∈ lw_all := lw_g (lw_at lw_m3 84 rfl) rfl
theorem q683 : (Jvm.Cond.code ({ cls := "EdgeLetters", name := "brokenLines", desc := "()I" } : Jvm.MethodName) prog_1_method_48_code (1 : Nat) (Option.some Jvm.ClassFile.FieldType.int)) ∈ lw_all := lw_g (lw_at lw_m3 85 rfl) rfl
theorem q684 : (Jvm.Cond.methodLink "EdgeLetters" (259 : Nat) ({ cls := "EdgeLetters$Board", name := "brokenLines", desc := "()I" } : Jvm.MethodName)) ∈ lw_all := lw_g (lw_at lw_m3 86 rfl) rfl
theorem q689 : (Jvm.Cond.instanceMethod ({ cls := "EdgeLetters", name := "nextStep", desc := "()I" } : Jvm.MethodName)) ∈ lw_all := lw_g (lw_at lw_m3 91 rfl) rfl
theorem q690 : (Jvm.Cond.selects "EdgeLetters" ({ cls := "EdgeLetters", name := "nextStep", desc := "()I" } : Jvm.MethodName) ({ cls := "EdgeLetters", name := "nextStep", desc := "()I" } : Jvm.MethodName)) ∈ lw_all := lw_g (lw_at lw_m3 92 rfl) rfl
theorem q691 : (Jvm.Cond.code ({ cls := "EdgeLetters", name := "nextStep", desc := "()I" } : Jvm.MethodName) prog_1_method_51_code (1 : Nat) (Option.some Jvm.ClassFile.FieldType.int)) ∈ lw_all := lw_g (lw_at lw_m3 93 rfl) rfl
theorem q692 : (Jvm.Cond.methodLink "EdgeLetters" (266 : Nat) ({ cls := "EdgeLetters$Board", name := "next", desc := "(ILEdgeLetters$Board;)I" } : Jvm.MethodName)) ∈ lw_all := lw_g (lw_at lw_m3 94 rfl) rfl
theorem q760 : (Jvm.Cond.instanceMethod ({ cls := "EdgeLetters", name := "hardness", desc := "()I" } : Jvm.MethodName)) ∈ lw_all := lw_g (lw_at lw_m3 162 rfl) rfl
theorem q761 : (Jvm.Cond.selects "EdgeLetters" ({ cls := "EdgeLetters", name := "hardness", desc := "()I" } : Jvm.MethodName) ({ cls := "EdgeLetters", name := "hardness", desc := "()I" } : Jvm.MethodName)) ∈ lw_all := lw_g (lw_at lw_m3 163 rfl) rfl
theorem q762 : (Jvm.Cond.code ({ cls := "EdgeLetters", name := "hardness", desc := "()I" } : Jvm.MethodName) prog_1_method_55_code (3 : Nat) (Option.some Jvm.ClassFile.FieldType.int)) ∈ lw_all := lw_g (lw_at lw_m3 164 rfl) rfl
theorem q763 : (Jvm.Cond.methodLink "EdgeLetters" (276 : Nat) ({ cls := "EdgeLetters$Board", name := "stepAll", desc := "(ILEdgeLetters$Board;)I" } : Jvm.MethodName)) ∈ lw_all := lw_g (lw_at lw_m3 165 rfl) rfl
theorem q773 : (Jvm.Cond.instanceMethod ({ cls := "EdgeLetters", name := "solutionCount", desc := "()I" } : Jvm.MethodName)) ∈ lw_all := lw_g (lw_at lw_m3 175 rfl) rfl
theorem q774 : (Jvm.Cond.selects "EdgeLetters" ({ cls := "EdgeLetters", name := "solutionCount", desc := "()I" } : Jvm.MethodName) ({ cls := "EdgeLetters", name := "solutionCount", desc := "()I" } : Jvm.MethodName)) ∈ lw_all := lw_g (lw_at lw_m3 176 rfl) rfl
theorem q775 : (Jvm.Cond.code ({ cls := "EdgeLetters", name := "solutionCount", desc := "()I" } : Jvm.MethodName) prog_1_method_57_code (1 : Nat) (Option.some Jvm.ClassFile.FieldType.int)) ∈ lw_all := lw_g (lw_at lw_m3 177 rfl) rfl
theorem q776 : (Jvm.Cond.methodLink "EdgeLetters" (283 : Nat) ({ cls := "EdgeLetters", name := "found", desc := "(IZ)LEdgeLetters$Found;" } : Jvm.MethodName)) ∈ lw_all := lw_g (lw_at lw_m3 178 rfl) rfl
theorem q777 : (Jvm.Cond.privateMethod ({ cls := "EdgeLetters", name := "found", desc := "(IZ)LEdgeLetters$Found;" } : Jvm.MethodName)) ∈ lw_tbl := lw_at lw_m3 179 rfl
theorem q778 : (Jvm.Cond.instanceMethod ({ cls := "EdgeLetters", name := "found", desc := "(IZ)LEdgeLetters$Found;" } : Jvm.MethodName)) ∈ lw_all := lw_g (lw_at lw_m3 180 rfl) rfl
theorem q779 : (Jvm.Cond.code ({ cls := "EdgeLetters", name := "found", desc := "(IZ)LEdgeLetters$Found;" } : Jvm.MethodName) prog_1_method_56_code (3 : Nat) (Option.some (Jvm.ClassFile.FieldType.object "EdgeLetters$Found"))) ∈ lw_all := lw_g (lw_at lw_m3 181 rfl) rfl
theorem q780 : (Jvm.Cond.methodLink "EdgeLetters" (279 : Nat) ({ cls := "EdgeLetters$Board", name := "solutions", desc := "(IZ)LEdgeLetters$Found;" } : Jvm.MethodName)) ∈ lw_all := lw_g (lw_at lw_m3 182 rfl) rfl
theorem q794 : (Jvm.Cond.fieldLinkNest "EdgeLetters" (294 : Nat) "EdgeLetters$Found" "first" "[I" "EdgeLetters") ∈ lw_tbl := lw_at lw_m3 196 rfl
theorem q797 : (Jvm.Cond.fieldLinkNest "EdgeLetters" (286 : Nat) "EdgeLetters$Found" "count" "I" "EdgeLetters") ∈ lw_tbl := lw_at lw_m3 199 rfl
theorem q799 : (Jvm.Cond.fieldLinkNest "EdgeLetters" (297 : Nat) "EdgeLetters$Found" "same" "I" "EdgeLetters") ∈ lw_tbl := lw_at lw_m3 201 rfl
theorem q830 : (Jvm.Cond.instanceMethod ({ cls := "EdgeLetters", name := "solutionCountByRows", desc := "()I" } : Jvm.MethodName)) ∈ lw_all := lw_g (lw_at lw_m3 232 rfl) rfl
theorem q831 : (Jvm.Cond.selects "EdgeLetters" ({ cls := "EdgeLetters", name := "solutionCountByRows", desc := "()I" } : Jvm.MethodName) ({ cls := "EdgeLetters", name := "solutionCountByRows", desc := "()I" } : Jvm.MethodName)) ∈ lw_all := lw_g (lw_at lw_m3 233 rfl) rfl
theorem q832 : (Jvm.Cond.code ({ cls := "EdgeLetters", name := "solutionCountByRows", desc := "()I" } : Jvm.MethodName) prog_1_method_58_code (1 : Nat) (Option.some Jvm.ClassFile.FieldType.int)) ∈ lw_all := lw_g (lw_at lw_m3 234 rfl) rfl
theorem q833 : (Jvm.Cond.methodLink "EdgeLetters" (291 : Nat) ({ cls := "EdgeLetters$Board", name := "countByRows", desc := "(II)I" } : Jvm.MethodName)) ∈ lw_all := lw_g (lw_at lw_m3 235 rfl) rfl
theorem q844 : (Jvm.Cond.instanceMethod ({ cls := "EdgeLetters", name := "sameInAll", desc := "()J" } : Jvm.MethodName)) ∈ lw_all := lw_g (lw_at lw_m4 6 rfl) rfl
theorem q845 : (Jvm.Cond.selects "EdgeLetters" ({ cls := "EdgeLetters", name := "sameInAll", desc := "()J" } : Jvm.MethodName) ({ cls := "EdgeLetters", name := "sameInAll", desc := "()J" } : Jvm.MethodName)) ∈ lw_all := lw_g (lw_at lw_m4 7 rfl) rfl
theorem q846 : (Jvm.Cond.code ({ cls := "EdgeLetters", name := "sameInAll", desc := "()J" } : Jvm.MethodName) prog_1_method_60_code (3 : Nat) (Option.some Jvm.ClassFile.FieldType.long)) ∈ lw_all := lw_g (lw_at lw_m4 8 rfl) rfl
theorem q848 : (Jvm.Cond.instanceMethod ({ cls := "EdgeLetters", name := "crossedShare", desc := "()D" } : Jvm.MethodName)) ∈ lw_all := lw_g (lw_at lw_m4 10 rfl) rfl
theorem q849 : (Jvm.Cond.selects "EdgeLetters" ({ cls := "EdgeLetters", name := "crossedShare", desc := "()D" } : Jvm.MethodName) ({ cls := "EdgeLetters", name := "crossedShare", desc := "()D" } : Jvm.MethodName)) ∈ lw_all := lw_g (lw_at lw_m4 11 rfl) rfl
theorem q850 : (Jvm.Cond.code ({ cls := "EdgeLetters", name := "crossedShare", desc := "()D" } : Jvm.MethodName) prog_1_method_62_code (3 : Nat) (Option.some Jvm.ClassFile.FieldType.double)) ∈ lw_all := lw_g (lw_at lw_m4 12 rfl) rfl
theorem q851 : (Jvm.Cond.methodLink "EdgeLetters" (303 : Nat) ({ cls := "EdgeLetters$Board", name := "crossedOut", desc := "()I" } : Jvm.MethodName)) ∈ lw_all := lw_g (lw_at lw_m4 13 rfl) rfl
theorem q856 : (Jvm.Cond.instanceMethod ({ cls := "EdgeLetters", name := "clearText", desc := "()I" } : Jvm.MethodName)) ∈ lw_all := lw_g (lw_at lw_m4 18 rfl) rfl
theorem q857 : (Jvm.Cond.selects "EdgeLetters" ({ cls := "EdgeLetters", name := "clearText", desc := "()I" } : Jvm.MethodName) ({ cls := "EdgeLetters", name := "clearText", desc := "()I" } : Jvm.MethodName)) ∈ lw_all := lw_g (lw_at lw_m4 19 rfl) rfl
theorem q858 : (Jvm.Cond.code ({ cls := "EdgeLetters", name := "clearText", desc := "()I" } : Jvm.MethodName) prog_1_method_64_code (2 : Nat) (Option.some Jvm.ClassFile.FieldType.int)) ∈ lw_all := lw_g (lw_at lw_m4 20 rfl) rfl
theorem q859 : (Jvm.Cond.methodLink "EdgeLetters" (308 : Nat) ({ cls := "java/lang/StringBuilder", name := "length", desc := "()I" } : Jvm.MethodName)) ∈ lw_all := lw_g (lw_at lw_m4 21 rfl) rfl
theorem q866 : (Jvm.Cond.methodLink "EdgeLetters" (315 : Nat) ({ cls := "java/lang/StringBuilder", name := "setLength", desc := "(I)V" } : Jvm.MethodName)) ∈ lw_all := lw_g (lw_at lw_m4 28 rfl) rfl
theorem q1189 : (Jvm.Cond.instanceMethod ({ cls := "EdgeLetters", name := "textLength", desc := "()I" } : Jvm.MethodName)) ∈ lw_all := lw_g (lw_at lw_m5 111 rfl) rfl
theorem q1190 : (Jvm.Cond.selects "EdgeLetters" ({ cls := "EdgeLetters", name := "textLength", desc := "()I" } : Jvm.MethodName) ({ cls := "EdgeLetters", name := "textLength", desc := "()I" } : Jvm.MethodName)) ∈ lw_all := lw_g (lw_at lw_m5 112 rfl) rfl
theorem q1191 : (Jvm.Cond.code ({ cls := "EdgeLetters", name := "textLength", desc := "()I" } : Jvm.MethodName) prog_1_method_65_code (1 : Nat) (Option.some Jvm.ClassFile.FieldType.int)) ∈ lw_all := lw_g (lw_at lw_m5 113 rfl) rfl
theorem q1193 : (Jvm.Cond.instanceMethod ({ cls := "EdgeLetters", name := "textError", desc := "()I" } : Jvm.MethodName)) ∈ lw_all := lw_g (lw_at lw_m5 115 rfl) rfl
theorem q1194 : (Jvm.Cond.selects "EdgeLetters" ({ cls := "EdgeLetters", name := "textError", desc := "()I" } : Jvm.MethodName) ({ cls := "EdgeLetters", name := "textError", desc := "()I" } : Jvm.MethodName)) ∈ lw_all := lw_g (lw_at lw_m5 116 rfl) rfl
theorem q1195 : (Jvm.Cond.code ({ cls := "EdgeLetters", name := "textError", desc := "()I" } : Jvm.MethodName) prog_1_method_66_code (2 : Nat) (Option.some Jvm.ClassFile.FieldType.int)) ∈ lw_all := lw_g (lw_at lw_m5 117 rfl) rfl
theorem q1196 : (Jvm.Cond.classLink "EdgeLetters" (318 : Nat) "EdgeLetters$CommandReader") ∈ lw_all := lw_g (lw_at lw_m5 118 rfl) rfl
theorem q1198 : (Jvm.Cond.methodLink "EdgeLetters" (320 : Nat) ({ cls := "EdgeLetters$CommandReader", name := "<init>", desc := "(LEdgeLetters;)V" } : Jvm.MethodName)) ∈ lw_all := lw_g (lw_at lw_m5 120 rfl) rfl
theorem q1239 : (Jvm.Cond.static ({ cls := "EdgeLetters", name := "isIn", desc := "(III)Z" } : Jvm.MethodName)) ∈ lw_all := lw_g (lw_at lw_m5 161 rfl) rfl
theorem q1240 : (Jvm.Cond.code ({ cls := "EdgeLetters", name := "isIn", desc := "(III)Z" } : Jvm.MethodName) prog_1_method_1_code (3 : Nat) (Option.some Jvm.ClassFile.FieldType.boolean)) ∈ lw_all := lw_g (lw_at lw_m5 162 rfl) rfl
theorem q1311 : (Jvm.Cond.fieldLinkNest "EdgeLetters" (333 : Nat) "EdgeLetters$CommandReader" "commands" "Ljava/util/List;" "EdgeLetters") ∈ lw_tbl := lw_at lw_m5 233 rfl
theorem q1313 : (Jvm.Cond.fieldLinkNest "EdgeLetters" (326 : Nat) "EdgeLetters$CommandReader" "index" "I" "EdgeLetters") ∈ lw_tbl := lw_at lw_m5 235 rfl
theorem q1315 : (Jvm.Cond.fieldLinkNest "EdgeLetters" (323 : Nat) "EdgeLetters$CommandReader" "isWrong" "Z" "EdgeLetters") ∈ lw_tbl := lw_at lw_m5 237 rfl
theorem q1327 : (Jvm.Cond.instanceMethod ({ cls := "EdgeLetters", name := "undoCount", desc := "()I" } : Jvm.MethodName)) ∈ lw_all := lw_g (lw_at lw_m6 9 rfl) rfl
theorem q1328 : (Jvm.Cond.selects "EdgeLetters" ({ cls := "EdgeLetters", name := "undoCount", desc := "()I" } : Jvm.MethodName) ({ cls := "EdgeLetters", name := "undoCount", desc := "()I" } : Jvm.MethodName)) ∈ lw_all := lw_g (lw_at lw_m6 10 rfl) rfl
theorem q1329 : (Jvm.Cond.code ({ cls := "EdgeLetters", name := "undoCount", desc := "()I" } : Jvm.MethodName) prog_1_method_71_code (1 : Nat) (Option.some Jvm.ClassFile.FieldType.int)) ∈ lw_all := lw_g (lw_at lw_m6 11 rfl) rfl
theorem q1335 : (Jvm.Cond.instanceMethod ({ cls := "EdgeLetters", name := "start", desc := "(II)I" } : Jvm.MethodName)) ∈ lw_all := lw_g (lw_at lw_m6 17 rfl) rfl
theorem q1336 : (Jvm.Cond.selects "EdgeLetters" ({ cls := "EdgeLetters", name := "start", desc := "(II)I" } : Jvm.MethodName) ({ cls := "EdgeLetters", name := "start", desc := "(II)I" } : Jvm.MethodName)) ∈ lw_all := lw_g (lw_at lw_m6 18 rfl) rfl
theorem q1337 : (Jvm.Cond.code ({ cls := "EdgeLetters", name := "start", desc := "(II)I" } : Jvm.MethodName) prog_1_method_17_code (4 : Nat) (Option.some Jvm.ClassFile.FieldType.int)) ∈ lw_all := lw_g (lw_at lw_m6 19 rfl) rfl
theorem q1338 : (Jvm.Cond.methodLink "EdgeLetters" (15 : Nat) ({ cls := "EdgeLetters", name := "isIn", desc := "(III)Z" } : Jvm.MethodName)) ∈ lw_all := lw_g (lw_at lw_m6 20 rfl) rfl
theorem q1339 : (Jvm.Cond.methodLink "EdgeLetters" (19 : Nat) ({ cls := "EdgeLetters", name := "checkArgument", desc := "(Z)V" } : Jvm.MethodName)) ∈ lw_all := lw_g (lw_at lw_m6 21 rfl) rfl
theorem q1340 : (Jvm.Cond.static ({ cls := "EdgeLetters", name := "checkArgument", desc := "(Z)V" } : Jvm.MethodName)) ∈ lw_all := lw_g (lw_at lw_m6 22 rfl) rfl
theorem q1341 : (Jvm.Cond.code ({ cls := "EdgeLetters", name := "checkArgument", desc := "(Z)V" } : Jvm.MethodName) prog_1_method_5_code (1 : Nat) (Option.none : Option Jvm.ClassFile.FieldType)) ∈ lw_all := lw_g (lw_at lw_m6 23 rfl) rfl
theorem q1342 : (Jvm.Cond.classLink "EdgeLetters" (7 : Nat) "java/lang/IllegalArgumentException") ∈ lw_all := lw_g (lw_at lw_m6 24 rfl) rfl
theorem q1343 : (Jvm.Cond.methodLink "EdgeLetters" (9 : Nat) ({ cls := "java/lang/IllegalArgumentException", name := "<init>", desc := "()V" } : Jvm.MethodName)) ∈ lw_all := lw_g (lw_at lw_m6 25 rfl) rfl
theorem q1353 : (Jvm.Cond.methodLink "EdgeLetters" (118 : Nat) ({ cls := "EdgeLetters$Puzzle", name := "begin", desc := "(II)V" } : Jvm.MethodName)) ∈ lw_all := lw_g (lw_at lw_m6 35 rfl) rfl
theorem q1361 : (Jvm.Cond.instanceMethod ({ cls := "EdgeLetters", name := "setTelling", desc := "(IIZ)I" } : Jvm.MethodName)) ∈ lw_all := lw_g (lw_at lw_m6 43 rfl) rfl
theorem q1362 : (Jvm.Cond.selects "EdgeLetters" ({ cls := "EdgeLetters", name := "setTelling", desc := "(IIZ)I" } : Jvm.MethodName) ({ cls := "EdgeLetters", name := "setTelling", desc := "(IIZ)I" } : Jvm.MethodName)) ∈ lw_all := lw_g (lw_at lw_m6 44 rfl) rfl
theorem q1363 : (Jvm.Cond.code ({ cls := "EdgeLetters", name := "setTelling", desc := "(IIZ)I" } : Jvm.MethodName) prog_1_method_20_code (4 : Nat) (Option.some Jvm.ClassFile.FieldType.int)) ∈ lw_all := lw_g (lw_at lw_m6 45 rfl) rfl
theorem q1364 : (Jvm.Cond.methodLink "EdgeLetters" (142 : Nat) ({ cls := "EdgeLetters", name := "tell", desc := "(IIZZ)I" } : Jvm.MethodName)) ∈ lw_all := lw_g (lw_at lw_m6 46 rfl) rfl
theorem q1365 : (Jvm.Cond.privateMethod ({ cls := "EdgeLetters", name := "tell", desc := "(IIZZ)I" } : Jvm.MethodName)) ∈ lw_tbl := lw_at lw_m6 47 rfl
theorem q1366 : (Jvm.Cond.instanceMethod ({ cls := "EdgeLetters", name := "tell", desc := "(IIZZ)I" } : Jvm.MethodName)) ∈ lw_all := lw_g (lw_at lw_m6 48 rfl) rfl
theorem q1367 : (Jvm.Cond.code ({ cls := "EdgeLetters", name := "tell", desc := "(IIZZ)I" } : Jvm.MethodName) prog_1_method_19_code (5 : Nat) (Option.some Jvm.ClassFile.FieldType.int)) ∈ lw_all := lw_g (lw_at lw_m6 49 rfl) rfl
theorem q1368 : (Jvm.Cond.methodLink "EdgeLetters" (132 : Nat) ({ cls := "EdgeLetters", name := "checkEdge", desc := "(I)V" } : Jvm.MethodName)) ∈ lw_all := lw_g (lw_at lw_m6 50 rfl) rfl
theorem q1369 : (Jvm.Cond.privateMethod ({ cls := "EdgeLetters", name := "checkEdge", desc := "(I)V" } : Jvm.MethodName)) ∈ lw_tbl := lw_at lw_m6 51 rfl
theorem q1370 : (Jvm.Cond.instanceMethod ({ cls := "EdgeLetters", name := "checkEdge", desc := "(I)V" } : Jvm.MethodName)) ∈ lw_all := lw_g (lw_at lw_m6 52 rfl) rfl
theorem q1371 : (Jvm.Cond.code ({ cls := "EdgeLetters", name := "checkEdge", desc := "(I)V" } : Jvm.MethodName) prog_1_method_11_code (2 : Nat) (Option.none : Option Jvm.ClassFile.FieldType)) ∈ lw_all := lw_g (lw_at lw_m6 53 rfl) rfl
theorem q1372 : (Jvm.Cond.methodLink "EdgeLetters" (95 : Nat) ({ cls := "EdgeLetters", name := "checkIndex", desc := "(Z)V" } : Jvm.MethodName)) ∈ lw_all := lw_g (lw_at lw_m6 54 rfl) rfl
theorem q1373 : (Jvm.Cond.static ({ cls := "EdgeLetters", name := "checkIndex", desc := "(Z)V" } : Jvm.MethodName)) ∈ lw_all := lw_g (lw_at lw_m6 55 rfl) rfl
theorem q1374 : (Jvm.Cond.code ({ cls := "EdgeLetters", name := "checkIndex", desc := "(Z)V" } : Jvm.MethodName) prog_1_method_4_code (1 : Nat) (Option.none : Option Jvm.ClassFile.FieldType)) ∈ lw_all := lw_g (lw_at lw_m6 56 rfl) rfl
theorem q1375 : (Jvm.Cond.classLink "EdgeLetters" (1 : Nat) "java/lang/IndexOutOfBoundsException") ∈ lw_all := lw_g (lw_at lw_m6 57 rfl) rfl
theorem q1384 : (Jvm.Cond.methodLink "EdgeLetters" (3 : Nat) ({ cls := "java/lang/IndexOutOfBoundsException", name := "<init>", desc := "()V" } : Jvm.MethodName)) ∈ lw_all := lw_g (lw_at lw_m6 66 rfl) rfl
theorem q1390 : (Jvm.Cond.methodLink "EdgeLetters" (135 : Nat) ({ cls := "EdgeLetters", name := "checkLetter", desc := "(I)V" } : Jvm.MethodName)) ∈ lw_all := lw_g (lw_at lw_m6 72 rfl) rfl
theorem q1391 : (Jvm.Cond.privateMethod ({ cls := "EdgeLetters", name := "checkLetter", desc := "(I)V" } : Jvm.MethodName)) ∈ lw_tbl := lw_at lw_m6 73 rfl
theorem q1392 : (Jvm.Cond.instanceMethod ({ cls := "EdgeLetters", name := "checkLetter", desc := "(I)V" } : Jvm.MethodName)) ∈ lw_all := lw_g (lw_at lw_m6 74 rfl) rfl
theorem q1393 : (Jvm.Cond.code ({ cls := "EdgeLetters", name := "checkLetter", desc := "(I)V" } : Jvm.MethodName) prog_1_method_15_code (2 : Nat) (Option.none : Option Jvm.ClassFile.FieldType)) ∈ lw_all := lw_g (lw_at lw_m6 75 rfl) rfl
theorem q1399 : (Jvm.Cond.instanceMethod ({ cls := "EdgeLetters", name := "clearTelling", desc := "(I)I" } : Jvm.MethodName)) ∈ lw_all := lw_g (lw_at lw_m6 81 rfl) rfl
theorem q1400 : (Jvm.Cond.selects "EdgeLetters" ({ cls := "EdgeLetters", name := "clearTelling", desc := "(I)I" } : Jvm.MethodName) ({ cls := "EdgeLetters", name := "clearTelling", desc := "(I)I" } : Jvm.MethodName)) ∈ lw_all := lw_g (lw_at lw_m6 82 rfl) rfl
theorem q1401 : (Jvm.Cond.code ({ cls := "EdgeLetters", name := "clearTelling", desc := "(I)I" } : Jvm.MethodName) prog_1_method_22_code (2 : Nat) (Option.some Jvm.ClassFile.FieldType.int)) ∈ lw_all := lw_g (lw_at lw_m6 83 rfl) rfl
theorem q1402 : (Jvm.Cond.methodLink "EdgeLetters" (155 : Nat) ({ cls := "EdgeLetters", name := "untell", desc := "(IZ)I" } : Jvm.MethodName)) ∈ lw_all := lw_g (lw_at lw_m6 84 rfl) rfl
theorem q1403 : (Jvm.Cond.privateMethod ({ cls := "EdgeLetters", name := "untell", desc := "(IZ)I" } : Jvm.MethodName)) ∈ lw_tbl := lw_at lw_m6 85 rfl
theorem q1404 : (Jvm.Cond.instanceMethod ({ cls := "EdgeLetters", name := "untell", desc := "(IZ)I" } : Jvm.MethodName)) ∈ lw_all := lw_g (lw_at lw_m6 86 rfl) rfl
theorem q1405 : (Jvm.Cond.code ({ cls := "EdgeLetters", name := "untell", desc := "(IZ)I" } : Jvm.MethodName) prog_1_method_21_code (4 : Nat) (Option.some Jvm.ClassFile.FieldType.int)) ∈ lw_all := lw_g (lw_at lw_m6 87 rfl) rfl
theorem q1406 : (Jvm.Cond.methodLink "EdgeLetters" (149 : Nat) ({ cls := "EdgeLetters", name := "checkState", desc := "(Z)V" } : Jvm.MethodName)) ∈ lw_all := lw_g (lw_at lw_m6 88 rfl) rfl
theorem q1407 : (Jvm.Cond.static ({ cls := "EdgeLetters", name := "checkState", desc := "(Z)V" } : Jvm.MethodName)) ∈ lw_all := lw_g (lw_at lw_m6 89 rfl) rfl
theorem q1408 : (Jvm.Cond.code ({ cls := "EdgeLetters", name := "checkState", desc := "(Z)V" } : Jvm.MethodName) prog_1_method_6_code (1 : Nat) (Option.none : Option Jvm.ClassFile.FieldType)) ∈ lw_all := lw_g (lw_at lw_m6 90 rfl) rfl
theorem q1409 : (Jvm.Cond.classLink "EdgeLetters" (10 : Nat) "java/lang/IllegalStateException") ∈ lw_all := lw_g (lw_at lw_m6 91 rfl) rfl
theorem q1418 : (Jvm.Cond.methodLink "EdgeLetters" (12 : Nat) ({ cls := "java/lang/IllegalStateException", name := "<init>", desc := "()V" } : Jvm.MethodName)) ∈ lw_all := lw_g (lw_at lw_m6 100 rfl) rfl
theorem q1428 : (Jvm.Cond.instanceMethod ({ cls := "EdgeLetters", name := "exchange", desc := "(II)I" } : Jvm.MethodName)) ∈ lw_all := lw_g (lw_at lw_m6 110 rfl) rfl
theorem q1429 : (Jvm.Cond.selects "EdgeLetters" ({ cls := "EdgeLetters", name := "exchange", desc := "(II)I" } : Jvm.MethodName) ({ cls := "EdgeLetters", name := "exchange", desc := "(II)I" } : Jvm.MethodName)) ∈ lw_all := lw_g (lw_at lw_m6 111 rfl) rfl
theorem q1430 : (Jvm.Cond.code ({ cls := "EdgeLetters", name := "exchange", desc := "(II)I" } : Jvm.MethodName) prog_1_method_26_code (5 : Nat) (Option.some Jvm.ClassFile.FieldType.int)) ∈ lw_all := lw_g (lw_at lw_m6 112 rfl) rfl
theorem q1431 : (Jvm.Cond.methodLink "EdgeLetters" (201 : Nat) ({ cls := "EdgeLetters$Puzzle", name := "exchange", desc := "(II)I" } : Jvm.MethodName)) ∈ lw_all := lw_g (lw_at lw_m6 113 rfl) rfl
theorem q1443 : (Jvm.Cond.instanceMethod ({ cls := "EdgeLetters", name := "tellingAt", desc := "(I)I" } : Jvm.MethodName)) ∈ lw_all := lw_g (lw_at lw_m6 125 rfl) rfl
theorem q1444 : (Jvm.Cond.selects "EdgeLetters" ({ cls := "EdgeLetters", name := "tellingAt", desc := "(I)I" } : Jvm.MethodName) ({ cls := "EdgeLetters", name := "tellingAt", desc := "(I)I" } : Jvm.MethodName)) ∈ lw_all := lw_g (lw_at lw_m6 126 rfl) rfl
theorem q1445 : (Jvm.Cond.code ({ cls := "EdgeLetters", name := "tellingAt", desc := "(I)I" } : Jvm.MethodName) prog_1_method_32_code (2 : Nat) (Option.some Jvm.ClassFile.FieldType.int)) ∈ lw_all := lw_g (lw_at lw_m6 127 rfl) rfl
theorem q1450 : (Jvm.Cond.instanceMethod ({ cls := "EdgeLetters", name := "isSecond", desc := "(I)Z" } : Jvm.MethodName)) ∈ lw_all := lw_g (lw_at lw_m6 132 rfl) rfl
theorem q1451 : (Jvm.Cond.selects "EdgeLetters" ({ cls := "EdgeLetters", name := "isSecond", desc := "(I)Z" } : Jvm.MethodName) ({ cls := "EdgeLetters", name := "isSecond", desc := "(I)Z" } : Jvm.MethodName)) ∈ lw_all := lw_g (lw_at lw_m6 133 rfl) rfl
theorem q1452 : (Jvm.Cond.code ({ cls := "EdgeLetters", name := "isSecond", desc := "(I)Z" } : Jvm.MethodName) prog_1_method_33_code (2 : Nat) (Option.some Jvm.ClassFile.FieldType.boolean)) ∈ lw_all := lw_g (lw_at lw_m6 134 rfl) rfl
theorem q1457 : (Jvm.Cond.instanceMethod ({ cls := "EdgeLetters", name := "cellOf", desc := "(II)I" } : Jvm.MethodName)) ∈ lw_all := lw_g (lw_at lw_m6 139 rfl) rfl
theorem q1458 : (Jvm.Cond.selects "EdgeLetters" ({ cls := "EdgeLetters", name := "cellOf", desc := "(II)I" } : Jvm.MethodName) ({ cls := "EdgeLetters", name := "cellOf", desc := "(II)I" } : Jvm.MethodName)) ∈ lw_all := lw_g (lw_at lw_m6 140 rfl) rfl
theorem q1459 : (Jvm.Cond.code ({ cls := "EdgeLetters", name := "cellOf", desc := "(II)I" } : Jvm.MethodName) prog_1_method_34_code (3 : Nat) (Option.some Jvm.ClassFile.FieldType.int)) ∈ lw_all := lw_g (lw_at lw_m6 141 rfl) rfl
theorem q1460 : (Jvm.Cond.methodLink "EdgeLetters" (224 : Nat) ({ cls := "EdgeLetters", name := "checkPlace", desc := "(II)V" } : Jvm.MethodName)) ∈ lw_all := lw_g (lw_at lw_m6 142 rfl) rfl
theorem q1461 : (Jvm.Cond.privateMethod ({ cls := "EdgeLetters", name := "checkPlace", desc := "(II)V" } : Jvm.MethodName)) ∈ lw_tbl := lw_at lw_m6 143 rfl
theorem q1462 : (Jvm.Cond.instanceMethod ({ cls := "EdgeLetters", name := "checkPlace", desc := "(II)V" } : Jvm.MethodName)) ∈ lw_all := lw_g (lw_at lw_m6 144 rfl) rfl
theorem q1463 : (Jvm.Cond.code ({ cls := "EdgeLetters", name := "checkPlace", desc := "(II)V" } : Jvm.MethodName) prog_1_method_14_code (3 : Nat) (Option.none : Option Jvm.ClassFile.FieldType)) ∈ lw_all := lw_g (lw_at lw_m6 145 rfl) rfl
theorem q1464 : (Jvm.Cond.methodLink "EdgeLetters" (104 : Nat) ({ cls := "EdgeLetters", name := "checkLine", desc := "(I)V" } : Jvm.MethodName)) ∈ lw_all := lw_g (lw_at lw_m6 146 rfl) rfl
theorem q1465 : (Jvm.Cond.privateMethod ({ cls := "EdgeLetters", name := "checkLine", desc := "(I)V" } : Jvm.MethodName)) ∈ lw_tbl := lw_at lw_m6 147 rfl
theorem q1466 : (Jvm.Cond.instanceMethod ({ cls := "EdgeLetters", name := "checkLine", desc := "(I)V" } : Jvm.MethodName)) ∈ lw_all := lw_g (lw_at lw_m6 148 rfl) rfl
theorem q1467 : (Jvm.Cond.code ({ cls := "EdgeLetters", name := "checkLine", desc := "(I)V" } : Jvm.MethodName) prog_1_method_13_code (2 : Nat) (Option.none : Option Jvm.ClassFile.FieldType)) ∈ lw_all := lw_g (lw_at lw_m6 149 rfl) rfl
theorem q1472 : (Jvm.Cond.instanceMethod ({ cls := "EdgeLetters", name := "put", desc := "(II)I" } : Jvm.MethodName)) ∈ lw_all := lw_g (lw_at lw_m6 154 rfl) rfl
theorem q1473 : (Jvm.Cond.selects "EdgeLetters" ({ cls := "EdgeLetters", name := "put", desc := "(II)I" } : Jvm.MethodName) ({ cls := "EdgeLetters", name := "put", desc := "(II)I" } : Jvm.MethodName)) ∈ lw_all := lw_g (lw_at lw_m6 155 rfl) rfl
theorem q1474 : (Jvm.Cond.code ({ cls := "EdgeLetters", name := "put", desc := "(II)I" } : Jvm.MethodName) prog_1_method_36_code (3 : Nat) (Option.some Jvm.ClassFile.FieldType.int)) ∈ lw_all := lw_g (lw_at lw_m6 156 rfl) rfl
theorem q1475 : (Jvm.Cond.methodLink "EdgeLetters" (233 : Nat) ({ cls := "EdgeLetters", name := "settle", desc := "(IIZ)I" } : Jvm.MethodName)) ∈ lw_all := lw_g (lw_at lw_m6 157 rfl) rfl
theorem q1476 : (Jvm.Cond.privateMethod ({ cls := "EdgeLetters", name := "settle", desc := "(IIZ)I" } : Jvm.MethodName)) ∈ lw_tbl := lw_at lw_m6 158 rfl
theorem q1477 : (Jvm.Cond.instanceMethod ({ cls := "EdgeLetters", name := "settle", desc := "(IIZ)I" } : Jvm.MethodName)) ∈ lw_all := lw_g (lw_at lw_m6 159 rfl) rfl
theorem q1478 : (Jvm.Cond.code ({ cls := "EdgeLetters", name := "settle", desc := "(IIZ)I" } : Jvm.MethodName) prog_1_method_35_code (5 : Nat) (Option.some Jvm.ClassFile.FieldType.int)) ∈ lw_all := lw_g (lw_at lw_m6 160 rfl) rfl
theorem q1479 : (Jvm.Cond.methodLink "EdgeLetters" (227 : Nat) ({ cls := "EdgeLetters", name := "checkCell", desc := "(I)V" } : Jvm.MethodName)) ∈ lw_all := lw_g (lw_at lw_m6 161 rfl) rfl
theorem q1480 : (Jvm.Cond.privateMethod ({ cls := "EdgeLetters", name := "checkCell", desc := "(I)V" } : Jvm.MethodName)) ∈ lw_tbl := lw_at lw_m6 162 rfl
theorem q1481 : (Jvm.Cond.instanceMethod ({ cls := "EdgeLetters", name := "checkCell", desc := "(I)V" } : Jvm.MethodName)) ∈ lw_all := lw_g (lw_at lw_m6 163 rfl) rfl
theorem q1482 : (Jvm.Cond.code ({ cls := "EdgeLetters", name := "checkCell", desc := "(I)V" } : Jvm.MethodName) prog_1_method_12_code (2 : Nat) (Option.none : Option Jvm.ClassFile.FieldType)) ∈ lw_all := lw_g (lw_at lw_m6 164 rfl) rfl
theorem q1483 : (Jvm.Cond.methodLink "EdgeLetters" (230 : Nat) ({ cls := "EdgeLetters", name := "checkThing", desc := "(I)V" } : Jvm.MethodName)) ∈ lw_all := lw_g (lw_at lw_m6 165 rfl) rfl
theorem q1484 : (Jvm.Cond.privateMethod ({ cls := "EdgeLetters", name := "checkThing", desc := "(I)V" } : Jvm.MethodName)) ∈ lw_tbl := lw_at lw_m6 166 rfl
theorem q1485 : (Jvm.Cond.instanceMethod ({ cls := "EdgeLetters", name := "checkThing", desc := "(I)V" } : Jvm.MethodName)) ∈ lw_all := lw_g (lw_at lw_m6 167 rfl) rfl
theorem q1486 : (Jvm.Cond.code ({ cls := "EdgeLetters", name := "checkThing", desc := "(I)V" } : Jvm.MethodName) prog_1_method_16_code (2 : Nat) (Option.none : Option Jvm.ClassFile.FieldType)) ∈ lw_all := lw_g (lw_at lw_m6 168 rfl) rfl
theorem q1491 : (Jvm.Cond.instanceMethod ({ cls := "EdgeLetters", name := "crossOut", desc := "(II)I" } : Jvm.MethodName)) ∈ lw_all := lw_g (lw_at lw_m6 173 rfl) rfl
theorem q1492 : (Jvm.Cond.selects "EdgeLetters" ({ cls := "EdgeLetters", name := "crossOut", desc := "(II)I" } : Jvm.MethodName) ({ cls := "EdgeLetters", name := "crossOut", desc := "(II)I" } : Jvm.MethodName)) ∈ lw_all := lw_g (lw_at lw_m6 174 rfl) rfl
theorem q1493 : (Jvm.Cond.code ({ cls := "EdgeLetters", name := "crossOut", desc := "(II)I" } : Jvm.MethodName) prog_1_method_38_code (3 : Nat) (Option.some Jvm.ClassFile.FieldType.int)) ∈ lw_all := lw_g (lw_at lw_m6 175 rfl) rfl
theorem q1494 : (Jvm.Cond.methodLink "EdgeLetters" (236 : Nat) ({ cls := "EdgeLetters", name := "strike", desc := "(IIZ)I" } : Jvm.MethodName)) ∈ lw_all := lw_g (lw_at lw_m6 176 rfl) rfl
theorem q1495 : (Jvm.Cond.privateMethod ({ cls := "EdgeLetters", name := "strike", desc := "(IIZ)I" } : Jvm.MethodName)) ∈ lw_tbl := lw_at lw_m6 177 rfl
theorem q1496 : (Jvm.Cond.instanceMethod ({ cls := "EdgeLetters", name := "strike", desc := "(IIZ)I" } : Jvm.MethodName)) ∈ lw_all := lw_g (lw_at lw_m6 178 rfl) rfl
theorem q1497 : (Jvm.Cond.code ({ cls := "EdgeLetters", name := "strike", desc := "(IIZ)I" } : Jvm.MethodName) prog_1_method_37_code (4 : Nat) (Option.some Jvm.ClassFile.FieldType.int)) ∈ lw_all := lw_g (lw_at lw_m6 179 rfl) rfl
theorem q1502 : (Jvm.Cond.instanceMethod ({ cls := "EdgeLetters", name := "thingsOf", desc := "(I)I" } : Jvm.MethodName)) ∈ lw_all := lw_g (lw_at lw_m6 184 rfl) rfl
theorem q1503 : (Jvm.Cond.selects "EdgeLetters" ({ cls := "EdgeLetters", name := "thingsOf", desc := "(I)I" } : Jvm.MethodName) ({ cls := "EdgeLetters", name := "thingsOf", desc := "(I)I" } : Jvm.MethodName)) ∈ lw_all := lw_g (lw_at lw_m6 185 rfl) rfl
theorem q1504 : (Jvm.Cond.code ({ cls := "EdgeLetters", name := "thingsOf", desc := "(I)I" } : Jvm.MethodName) prog_1_method_40_code (2 : Nat) (Option.some Jvm.ClassFile.FieldType.int)) ∈ lw_all := lw_g (lw_at lw_m6 186 rfl) rfl
theorem q1509 : (Jvm.Cond.instanceMethod ({ cls := "EdgeLetters", name := "cellsWith", desc := "(I)J" } : Jvm.MethodName)) ∈ lw_all := lw_g (lw_at lw_m6 191 rfl) rfl
theorem q1510 : (Jvm.Cond.selects "EdgeLetters" ({ cls := "EdgeLetters", name := "cellsWith", desc := "(I)J" } : Jvm.MethodName) ({ cls := "EdgeLetters", name := "cellsWith", desc := "(I)J" } : Jvm.MethodName)) ∈ lw_all := lw_g (lw_at lw_m6 192 rfl) rfl
theorem q1511 : (Jvm.Cond.code ({ cls := "EdgeLetters", name := "cellsWith", desc := "(I)J" } : Jvm.MethodName) prog_1_method_41_code (5 : Nat) (Option.some Jvm.ClassFile.FieldType.long)) ∈ lw_all := lw_g (lw_at lw_m6 193 rfl) rfl
theorem q1516 : (Jvm.Cond.instanceMethod ({ cls := "EdgeLetters", name := "arrangements", desc := "(I)I" } : Jvm.MethodName)) ∈ lw_all := lw_g (lw_at lw_m6 198 rfl) rfl
theorem q1517 : (Jvm.Cond.selects "EdgeLetters" ({ cls := "EdgeLetters", name := "arrangements", desc := "(I)I" } : Jvm.MethodName) ({ cls := "EdgeLetters", name := "arrangements", desc := "(I)I" } : Jvm.MethodName)) ∈ lw_all := lw_g (lw_at lw_m6 199 rfl) rfl
theorem q1518 : (Jvm.Cond.code ({ cls := "EdgeLetters", name := "arrangements", desc := "(I)I" } : Jvm.MethodName) prog_1_method_45_code (2 : Nat) (Option.some Jvm.ClassFile.FieldType.int)) ∈ lw_all := lw_g (lw_at lw_m6 200 rfl) rfl
theorem q1519 : (Jvm.Cond.methodLink "EdgeLetters" (249 : Nat) ({ cls := "EdgeLetters$Board", name := "arrangements", desc := "(I)I" } : Jvm.MethodName)) ∈ lw_all := lw_g (lw_at lw_m6 201 rfl) rfl
theorem q1573 : (Jvm.Cond.instanceMethod ({ cls := "EdgeLetters", name := "arrangementsByCells", desc := "(I)I" } : Jvm.MethodName)) ∈ lw_all := lw_g (lw_at lw_m7 15 rfl) rfl
theorem q1574 : (Jvm.Cond.selects "EdgeLetters" ({ cls := "EdgeLetters", name := "arrangementsByCells", desc := "(I)I" } : Jvm.MethodName) ({ cls := "EdgeLetters", name := "arrangementsByCells", desc := "(I)I" } : Jvm.MethodName)) ∈ lw_all := lw_g (lw_at lw_m7 16 rfl) rfl
theorem q1575 : (Jvm.Cond.code ({ cls := "EdgeLetters", name := "arrangementsByCells", desc := "(I)I" } : Jvm.MethodName) prog_1_method_46_code (2 : Nat) (Option.some Jvm.ClassFile.FieldType.int)) ∈ lw_all := lw_g (lw_at lw_m7 17 rfl) rfl
theorem q1576 : (Jvm.Cond.methodLink "EdgeLetters" (252 : Nat) ({ cls := "EdgeLetters$Board", name := "countFrom", desc := "(III[I)I" } : Jvm.MethodName)) ∈ lw_all := lw_g (lw_at lw_m7 18 rfl) rfl
theorem q1585 : (Jvm.Cond.instanceMethod ({ cls := "EdgeLetters", name := "thingsIn", desc := "(II)I" } : Jvm.MethodName)) ∈ lw_all := lw_g (lw_at lw_m7 27 rfl) rfl
theorem q1586 : (Jvm.Cond.selects "EdgeLetters" ({ cls := "EdgeLetters", name := "thingsIn", desc := "(II)I" } : Jvm.MethodName) ({ cls := "EdgeLetters", name := "thingsIn", desc := "(II)I" } : Jvm.MethodName)) ∈ lw_all := lw_g (lw_at lw_m7 28 rfl) rfl
theorem q1587 : (Jvm.Cond.code ({ cls := "EdgeLetters", name := "thingsIn", desc := "(II)I" } : Jvm.MethodName) prog_1_method_47_code (3 : Nat) (Option.some Jvm.ClassFile.FieldType.int)) ∈ lw_all := lw_g (lw_at lw_m7 29 rfl) rfl
theorem q1588 : (Jvm.Cond.methodLink "EdgeLetters" (256 : Nat) ({ cls := "EdgeLetters$Board", name := "thingsIn", desc := "(II)I" } : Jvm.MethodName)) ∈ lw_all := lw_g (lw_at lw_m7 30 rfl) rfl
theorem q1593 : (Jvm.Cond.instanceMethod ({ cls := "EdgeLetters", name := "seenFrom", desc := "(II)I" } : Jvm.MethodName)) ∈ lw_all := lw_g (lw_at lw_m7 35 rfl) rfl
theorem q1594 : (Jvm.Cond.selects "EdgeLetters" ({ cls := "EdgeLetters", name := "seenFrom", desc := "(II)I" } : Jvm.MethodName) ({ cls := "EdgeLetters", name := "seenFrom", desc := "(II)I" } : Jvm.MethodName)) ∈ lw_all := lw_g (lw_at lw_m7 36 rfl) rfl
theorem q1595 : (Jvm.Cond.code ({ cls := "EdgeLetters", name := "seenFrom", desc := "(II)I" } : Jvm.MethodName) prog_1_method_49_code (4 : Nat) (Option.some Jvm.ClassFile.FieldType.int)) ∈ lw_all := lw_g (lw_at lw_m7 37 rfl) rfl
theorem q1600 : (Jvm.Cond.instanceMethod ({ cls := "EdgeLetters", name := "reasonFor", desc := "(II)I" } : Jvm.MethodName)) ∈ lw_all := lw_g (lw_at lw_m7 42 rfl) rfl
theorem q1601 : (Jvm.Cond.selects "EdgeLetters" ({ cls := "EdgeLetters", name := "reasonFor", desc := "(II)I" } : Jvm.MethodName) ({ cls := "EdgeLetters", name := "reasonFor", desc := "(II)I" } : Jvm.MethodName)) ∈ lw_all := lw_g (lw_at lw_m7 43 rfl) rfl
theorem q1602 : (Jvm.Cond.code ({ cls := "EdgeLetters", name := "reasonFor", desc := "(II)I" } : Jvm.MethodName) prog_1_method_50_code (4 : Nat) (Option.some Jvm.ClassFile.FieldType.int)) ∈ lw_all := lw_g (lw_at lw_m7 44 rfl) rfl
theorem q1603 : (Jvm.Cond.methodLink "EdgeLetters" (262 : Nat) ({ cls := "EdgeLetters$Board", name := "reasonFor", desc := "(IILEdgeLetters$Board;)I" } : Jvm.MethodName)) ∈ lw_all := lw_g (lw_at lw_m7 45 rfl) rfl
theorem q1611 : (Jvm.Cond.instanceMethod ({ cls := "EdgeLetters", name := "step", desc := "()I" } : Jvm.MethodName)) ∈ lw_all := lw_g (lw_at lw_m7 53 rfl) rfl
theorem q1612 : (Jvm.Cond.selects "EdgeLetters" ({ cls := "EdgeLetters", name := "step", desc := "()I" } : Jvm.MethodName) ({ cls := "EdgeLetters", name := "step", desc := "()I" } : Jvm.MethodName)) ∈ lw_all := lw_g (lw_at lw_m7 54 rfl) rfl
theorem q1613 : (Jvm.Cond.code ({ cls := "EdgeLetters", name := "step", desc := "()I" } : Jvm.MethodName) prog_1_method_52_code (2 : Nat) (Option.some Jvm.ClassFile.FieldType.int)) ∈ lw_all := lw_g (lw_at lw_m7 55 rfl) rfl
theorem q1614 : (Jvm.Cond.methodLink "EdgeLetters" (270 : Nat) ({ cls := "EdgeLetters$Board", name := "make", desc := "(I)I" } : Jvm.MethodName)) ∈ lw_all := lw_g (lw_at lw_m7 56 rfl) rfl
theorem q1619 : (Jvm.Cond.instanceMethod ({ cls := "EdgeLetters", name := "stepAll", desc := "(I)I" } : Jvm.MethodName)) ∈ lw_all := lw_g (lw_at lw_m7 61 rfl) rfl
theorem q1620 : (Jvm.Cond.selects "EdgeLetters" ({ cls := "EdgeLetters", name := "stepAll", desc := "(I)I" } : Jvm.MethodName) ({ cls := "EdgeLetters", name := "stepAll", desc := "(I)I" } : Jvm.MethodName)) ∈ lw_all := lw_g (lw_at lw_m7 62 rfl) rfl
theorem q1621 : (Jvm.Cond.code ({ cls := "EdgeLetters", name := "stepAll", desc := "(I)I" } : Jvm.MethodName) prog_1_method_53_code (2 : Nat) (Option.some Jvm.ClassFile.FieldType.int)) ∈ lw_all := lw_g (lw_at lw_m7 63 rfl) rfl
theorem q1622 : (Jvm.Cond.methodLink "EdgeLetters" (273 : Nat) ({ cls := "EdgeLetters", name := "checkReason", desc := "(I)V" } : Jvm.MethodName)) ∈ lw_all := lw_g (lw_at lw_m7 64 rfl) rfl
theorem q1623 : (Jvm.Cond.static ({ cls := "EdgeLetters", name := "checkReason", desc := "(I)V" } : Jvm.MethodName)) ∈ lw_all := lw_g (lw_at lw_m7 65 rfl) rfl
theorem q1624 : (Jvm.Cond.code ({ cls := "EdgeLetters", name := "checkReason", desc := "(I)V" } : Jvm.MethodName) prog_1_method_7_code (1 : Nat) (Option.none : Option Jvm.ClassFile.FieldType)) ∈ lw_all := lw_g (lw_at lw_m7 66 rfl) rfl
theorem q1629 : (Jvm.Cond.instanceMethod ({ cls := "EdgeLetters", name := "stepsUpTo", desc := "(I)I" } : Jvm.MethodName)) ∈ lw_all := lw_g (lw_at lw_m7 71 rfl) rfl
theorem q1630 : (Jvm.Cond.selects "EdgeLetters" ({ cls := "EdgeLetters", name := "stepsUpTo", desc := "(I)I" } : Jvm.MethodName) ({ cls := "EdgeLetters", name := "stepsUpTo", desc := "(I)I" } : Jvm.MethodName)) ∈ lw_all := lw_g (lw_at lw_m7 72 rfl) rfl
theorem q1631 : (Jvm.Cond.code ({ cls := "EdgeLetters", name := "stepsUpTo", desc := "(I)I" } : Jvm.MethodName) prog_1_method_54_code (2 : Nat) (Option.some Jvm.ClassFile.FieldType.int)) ∈ lw_all := lw_g (lw_at lw_m7 73 rfl) rfl
theorem q1636 : (Jvm.Cond.instanceMethod ({ cls := "EdgeLetters", name := "firstThing", desc := "(I)I" } : Jvm.MethodName)) ∈ lw_all := lw_g (lw_at lw_m7 78 rfl) rfl
theorem q1637 : (Jvm.Cond.selects "EdgeLetters" ({ cls := "EdgeLetters", name := "firstThing", desc := "(I)I" } : Jvm.MethodName) ({ cls := "EdgeLetters", name := "firstThing", desc := "(I)I" } : Jvm.MethodName)) ∈ lw_all := lw_g (lw_at lw_m7 79 rfl) rfl
theorem q1638 : (Jvm.Cond.code ({ cls := "EdgeLetters", name := "firstThing", desc := "(I)I" } : Jvm.MethodName) prog_1_method_59_code (3 : Nat) (Option.some Jvm.ClassFile.FieldType.int)) ∈ lw_all := lw_g (lw_at lw_m7 80 rfl) rfl
theorem q1643 : (Jvm.Cond.instanceMethod ({ cls := "EdgeLetters", name := "isNeeded", desc := "(I)Z" } : Jvm.MethodName)) ∈ lw_all := lw_g (lw_at lw_m7 85 rfl) rfl
theorem q1644 : (Jvm.Cond.selects "EdgeLetters" ({ cls := "EdgeLetters", name := "isNeeded", desc := "(I)Z" } : Jvm.MethodName) ({ cls := "EdgeLetters", name := "isNeeded", desc := "(I)Z" } : Jvm.MethodName)) ∈ lw_all := lw_g (lw_at lw_m7 86 rfl) rfl
theorem q1645 : (Jvm.Cond.codeWith ({ cls := "EdgeLetters", name := "isNeeded", desc := "(I)Z" } : Jvm.MethodName) prog_1_method_61_code (10 : Nat) (Option.some Jvm.ClassFile.FieldType.boolean) [((58 : Nat), (74 : Nat), (89 : Nat), (0 : Nat)), ((89 : Nat), (91 : Nat), (89 : Nat), (0 : Nat))]) ∈ lw_all := lw_g (lw_at lw_m7 87 rfl) rfl
theorem q1646 : (Jvm.Cond.methodLink "EdgeLetters" (300 : Nat) ({ cls := "EdgeLetters", name := "solutionCount", desc := "()I" } : Jvm.MethodName)) ∈ lw_all := lw_g (lw_at lw_m7 88 rfl) rfl
theorem q1651 : (Jvm.Cond.instanceMethod ({ cls := "EdgeLetters", name := "appendText", desc := "(J)I" } : Jvm.MethodName)) ∈ lw_all := lw_g (lw_at lw_m7 93 rfl) rfl
theorem q1652 : (Jvm.Cond.selects "EdgeLetters" ({ cls := "EdgeLetters", name := "appendText", desc := "(J)I" } : Jvm.MethodName) ({ cls := "EdgeLetters", name := "appendText", desc := "(J)I" } : Jvm.MethodName)) ∈ lw_all := lw_g (lw_at lw_m7 94 rfl) rfl
theorem q1653 : (Jvm.Cond.code ({ cls := "EdgeLetters", name := "appendText", desc := "(J)I" } : Jvm.MethodName) prog_1_method_63_code (7 : Nat) (Option.some Jvm.ClassFile.FieldType.int)) ∈ lw_all := lw_g (lw_at lw_m7 95 rfl) rfl
theorem q1654 : (Jvm.Cond.constantLong "EdgeLetters" (306 : Nat) (255 : Int64)) ∈ lw_all := lw_g (lw_at lw_m7 96 rfl) rfl
theorem q1655 : (Jvm.Cond.methodLink "EdgeLetters" (311 : Nat) ({ cls := "java/lang/StringBuilder", name := "append", desc := "(C)Ljava/lang/StringBuilder;" } : Jvm.MethodName)) ∈ lw_all := lw_g (lw_at lw_m7 97 rfl) rfl
theorem q1676 : (Jvm.Cond.instanceMethod ({ cls := "EdgeLetters", name := "runText", desc := "()I" } : Jvm.MethodName)) ∈ lw_all := lw_g (lw_at lw_m7 118 rfl) rfl
theorem q1677 : (Jvm.Cond.selects "EdgeLetters" ({ cls := "EdgeLetters", name := "runText", desc := "()I" } : Jvm.MethodName) ({ cls := "EdgeLetters", name := "runText", desc := "()I" } : Jvm.MethodName)) ∈ lw_all := lw_g (lw_at lw_m7 119 rfl) rfl
theorem q1678 : (Jvm.Cond.code ({ cls := "EdgeLetters", name := "runText", desc := "()I" } : Jvm.MethodName) prog_1_method_69_code (3 : Nat) (Option.some Jvm.ClassFile.FieldType.int)) ∈ lw_all := lw_g (lw_at lw_m7 120 rfl) rfl
theorem q1679 : (Jvm.Cond.interfaceEntry "EdgeLetters" (336 : Nat)) ∈ lw_tbl := lw_at lw_m7 121 rfl
theorem q1680 : (Jvm.Cond.methodLink "EdgeLetters" (336 : Nat) ({ cls := "java/util/List", name := "get", desc := "(I)Ljava/lang/Object;" } : Jvm.MethodName)) ∈ lw_all := lw_g (lw_at lw_m7 122 rfl) rfl
theorem q1681 : (Jvm.Cond.classLink "EdgeLetters" (339 : Nat) "[I") ∈ lw_all := lw_g (lw_at lw_m7 123 rfl) rfl
theorem q1682 : (Jvm.Cond.methodLink "EdgeLetters" (340 : Nat) ({ cls := "EdgeLetters", name := "succeeds", desc := "([I)Z" } : Jvm.MethodName)) ∈ lw_all := lw_g (lw_at lw_m7 124 rfl) rfl
theorem q1683 : (Jvm.Cond.privateMethod ({ cls := "EdgeLetters", name := "succeeds", desc := "([I)Z" } : Jvm.MethodName)) ∈ lw_tbl := lw_at lw_m7 125 rfl
theorem q1684 : (Jvm.Cond.instanceMethod ({ cls := "EdgeLetters", name := "succeeds", desc := "([I)Z" } : Jvm.MethodName)) ∈ lw_all := lw_g (lw_at lw_m7 126 rfl) rfl
theorem q1685 : (Jvm.Cond.codeWith ({ cls := "EdgeLetters", name := "succeeds", desc := "([I)Z" } : Jvm.MethodName) prog_1_method_68_code (3 : Nat) (Option.some Jvm.ClassFile.FieldType.boolean) [((0 : Nat), (7 : Nat), (8 : Nat), (1 : Nat)), ((0 : Nat), (7 : Nat), (8 : Nat), (7 : Nat)), ((0 : Nat), (7 : Nat), (8 : Nat), (10 : Nat))]) ∈ lw_all := lw_g (lw_at lw_m7 127 rfl) rfl
theorem q1686 : (Jvm.Cond.methodLink "EdgeLetters" (329 : Nat) ({ cls := "EdgeLetters", name := "execute", desc := "([I)I" } : Jvm.MethodName)) ∈ lw_all := lw_g (lw_at lw_m7 128 rfl) rfl
theorem q1687 : (Jvm.Cond.privateMethod ({ cls := "EdgeLetters", name := "execute", desc := "([I)I" } : Jvm.MethodName)) ∈ lw_tbl := lw_at lw_m7 129 rfl
theorem q1688 : (Jvm.Cond.instanceMethod ({ cls := "EdgeLetters", name := "execute", desc := "([I)I" } : Jvm.MethodName)) ∈ lw_all := lw_g (lw_at lw_m7 130 rfl) rfl
theorem q1689 : (Jvm.Cond.code ({ cls := "EdgeLetters", name := "execute", desc := "([I)I" } : Jvm.MethodName) prog_1_method_67_code (5 : Nat) (Option.some Jvm.ClassFile.FieldType.int)) ∈ lw_all := lw_g (lw_at lw_m7 131 rfl) rfl
theorem q1694 : (Jvm.Cond.instanceMethod ({ cls := "EdgeLetters", name := "undo", desc := "()I" } : Jvm.MethodName)) ∈ lw_all := lw_g (lw_at lw_m7 136 rfl) rfl
theorem q1695 : (Jvm.Cond.selects "EdgeLetters" ({ cls := "EdgeLetters", name := "undo", desc := "()I" } : Jvm.MethodName) ({ cls := "EdgeLetters", name := "undo", desc := "()I" } : Jvm.MethodName)) ∈ lw_all := lw_g (lw_at lw_m7 137 rfl) rfl
theorem q1696 : (Jvm.Cond.code ({ cls := "EdgeLetters", name := "undo", desc := "()I" } : Jvm.MethodName) prog_1_method_70_code (1 : Nat) (Option.some Jvm.ClassFile.FieldType.int)) ∈ lw_all := lw_g (lw_at lw_m7 138 rfl) rfl
theorem q1697 : (Jvm.Cond.interfaceEntry "EdgeLetters" (343 : Nat)) ∈ lw_tbl := lw_at lw_m7 139 rfl
theorem q1698 : (Jvm.Cond.methodLink "EdgeLetters" (343 : Nat) ({ cls := "java/util/List", name := "isEmpty", desc := "()Z" } : Jvm.MethodName)) ∈ lw_all := lw_g (lw_at lw_m7 140 rfl) rfl
theorem q1706 : (Jvm.Cond.methodLink "EdgeLetters" (346 : Nat) ({ cls := "EdgeLetters$Desk", name := "setAll", desc := "(LEdgeLetters$Desk;)V" } : Jvm.MethodName)) ∈ lw_all := lw_g (lw_at lw_m7 148 rfl) rfl
theorem q1711 : (Jvm.Cond.instanceMethod ({ cls := "EdgeLetters", name := "saveState", desc := "(I)I" } : Jvm.MethodName)) ∈ lw_all := lw_g (lw_at lw_m7 153 rfl) rfl
theorem q1712 : (Jvm.Cond.selects "EdgeLetters" ({ cls := "EdgeLetters", name := "saveState", desc := "(I)I" } : Jvm.MethodName) ({ cls := "EdgeLetters", name := "saveState", desc := "(I)I" } : Jvm.MethodName)) ∈ lw_all := lw_g (lw_at lw_m7 154 rfl) rfl
theorem q1713 : (Jvm.Cond.code ({ cls := "EdgeLetters", name := "saveState", desc := "(I)I" } : Jvm.MethodName) prog_1_method_72_code (2 : Nat) (Option.some Jvm.ClassFile.FieldType.int)) ∈ lw_all := lw_g (lw_at lw_m7 155 rfl) rfl
theorem q1718 : (Jvm.Cond.instanceMethod ({ cls := "EdgeLetters", name := "loadState", desc := "(I)I" } : Jvm.MethodName)) ∈ lw_all := lw_g (lw_at lw_m7 160 rfl) rfl
theorem q1719 : (Jvm.Cond.selects "EdgeLetters" ({ cls := "EdgeLetters", name := "loadState", desc := "(I)I" } : Jvm.MethodName) ({ cls := "EdgeLetters", name := "loadState", desc := "(I)I" } : Jvm.MethodName)) ∈ lw_all := lw_g (lw_at lw_m7 161 rfl) rfl
theorem q1720 : (Jvm.Cond.code ({ cls := "EdgeLetters", name := "loadState", desc := "(I)I" } : Jvm.MethodName) prog_1_method_73_code (2 : Nat) (Option.some Jvm.ClassFile.FieldType.int)) ∈ lw_all := lw_g (lw_at lw_m7 162 rfl) rfl
theorem q2314 : (Jvm.Cond.castable "EdgeLetters" "java/lang/Object") ∈ lw_tbl := lw_at lw_m10 36 rfl
theorem in_X1 : ∀ w ∈ wsX10, w ∈ lw_all := lw_in wsX10 [443, 445, 447, 449, 451, 453, 455, 457] (by decide +kernel) (by decide +kernel)
/-! EdgeLetters$Desk -/
set_option maxRecDepth 100000
def RX2 : String := "EdgeLetters$Desk"
def TX2 : u_T := fun k => match k with
  | 0 => ("EdgeLetters$Desk", "puzzle", "LEdgeLetters$Puzzle;", true)
  | _ => ("EdgeLetters$Desk", "board", "LEdgeLetters$Board;", true)
def tyX2 : Nat → FieldType := fun k => match k with
  | 0 => .object "EdgeLetters$Puzzle"
  | _ => .object "EdgeLetters$Board"
abbrev wsX20 : List Cond := u_ws RX2 TX2 2
theorem nmX2 : ∀ a, a < 2 → ∀ b, b < 2 → a ≠ b → (TX2 a).2.1 ≠ (TX2 b).2.1 := by decide +kernel
theorem tyX2_ok : ∀ k, k < 2 → parseFieldDescriptor (TX2 k).2.2.1 = some (tyX2 k) := by decide +kernel
abbrev cX2_init : ByteArray := prog_6_method_1_code
def yX2_init : MethodName := ⟨RX2, "<init>", "()V"⟩
def dkwX2_init_1 : List UInt8 := [183, 0, 18, 181, 0, 21, 177]
abbrev dktX2_init_1 : List UInt8 := dkwX2_init_1 ++ []
def dkwX2_init_0 : List UInt8 := [42, 183, 0, 1, 42, 187, 0, 7, 89, 183, 0, 9, 181, 0, 10, 42, 187, 0, 16, 89, 42, 180, 0, 10]
abbrev dktX2_init_0 : List UInt8 := dkwX2_init_0 ++ dktX2_init_1
theorem dksX2_init_0 : cX2_init.data.toList.drop 0 = dktX2_init_0 := by decide +kernel
theorem dksX2_init_1 : cX2_init.data.toList.drop 24 = dktX2_init_1 := dk_seg dksX2_init_0 24 rfl rfl
theorem dX2_init_0 : decode cX2_init 0 = .ok (.aload_n 0, 1) := dk_42 (dk_at dksX2_init_0 0 rfl rfl)
theorem dX2_init_1 : decode cX2_init 1 = .ok (.invokespecial 1, 3) := dk_183 0 1 (dk_at dksX2_init_0 1 rfl rfl)
theorem dX2_init_4 : decode cX2_init 4 = .ok (.aload_n 0, 1) := dk_42 (dk_at dksX2_init_0 4 rfl rfl)
theorem dX2_init_5 : decode cX2_init 5 = .ok (.new 7, 3) := dk_187 0 7 (dk_at dksX2_init_0 5 rfl rfl)
theorem dX2_init_8 : decode cX2_init 8 = .ok (.dup, 1) := dk_89 (dk_at dksX2_init_0 8 rfl rfl)
theorem dX2_init_9 : decode cX2_init 9 = .ok (.invokespecial 9, 3) := dk_183 0 9 (dk_at dksX2_init_0 9 rfl rfl)
theorem dX2_init_12 : decode cX2_init 12 = .ok (.putfield 10, 3) := dk_181 0 10 (dk_at dksX2_init_0 12 rfl rfl)
theorem dX2_init_15 : decode cX2_init 15 = .ok (.aload_n 0, 1) := dk_42 (dk_at dksX2_init_0 15 rfl rfl)
theorem dX2_init_16 : decode cX2_init 16 = .ok (.new 16, 3) := dk_187 0 16 (dk_at dksX2_init_0 16 rfl rfl)
theorem dX2_init_19 : decode cX2_init 19 = .ok (.dup, 1) := dk_89 (dk_at dksX2_init_0 19 rfl rfl)
theorem dX2_init_20 : decode cX2_init 20 = .ok (.aload_n 0, 1) := dk_42 (dk_at dksX2_init_0 20 rfl rfl)
theorem dX2_init_21 : decode cX2_init 21 = .ok (.getfield 10, 3) := dk_180 0 10 (dk_at dksX2_init_0 21 rfl rfl)
theorem dX2_init_24 : decode cX2_init 24 = .ok (.invokespecial 18, 3) := dk_183 0 18 (dk_at dksX2_init_1 0 rfl rfl)
theorem dX2_init_27 : decode cX2_init 27 = .ok (.putfield 21, 3) := dk_181 0 21 (dk_at dksX2_init_1 3 rfl rfl)
theorem dX2_init_30 : decode cX2_init 30 = .ok (.return_, 1) := dk_177 (dk_at dksX2_init_1 6 rfl rfl)
abbrev cX2_copy : ByteArray := prog_6_method_3_code
def yX2_copy : MethodName := ⟨RX2, "copy", "()LEdgeLetters$Desk;"⟩
def dkwX2_copy_0 : List UInt8 := [187, 0, 11, 89, 183, 0, 32, 76, 43, 42, 182, 0, 33, 43, 176]
abbrev dktX2_copy_0 : List UInt8 := dkwX2_copy_0 ++ []
theorem dksX2_copy_0 : cX2_copy.data.toList.drop 0 = dktX2_copy_0 := by decide +kernel
theorem dX2_copy_0 : decode cX2_copy 0 = .ok (.new 11, 3) := dk_187 0 11 (dk_at dksX2_copy_0 0 rfl rfl)
theorem dX2_copy_3 : decode cX2_copy 3 = .ok (.dup, 1) := dk_89 (dk_at dksX2_copy_0 3 rfl rfl)
theorem dX2_copy_4 : decode cX2_copy 4 = .ok (.invokespecial 32, 3) := dk_183 0 32 (dk_at dksX2_copy_0 4 rfl rfl)
theorem dX2_copy_7 : decode cX2_copy 7 = .ok (.astore_n 1, 1) := dk_76 (dk_at dksX2_copy_0 7 rfl rfl)
theorem dX2_copy_8 : decode cX2_copy 8 = .ok (.aload_n 1, 1) := dk_43 (dk_at dksX2_copy_0 8 rfl rfl)
theorem dX2_copy_9 : decode cX2_copy 9 = .ok (.aload_n 0, 1) := dk_42 (dk_at dksX2_copy_0 9 rfl rfl)
theorem dX2_copy_10 : decode cX2_copy 10 = .ok (.invokevirtual 33, 3) := dk_182 0 33 (dk_at dksX2_copy_0 10 rfl rfl)
theorem dX2_copy_13 : decode cX2_copy 13 = .ok (.aload_n 1, 1) := dk_43 (dk_at dksX2_copy_0 13 rfl rfl)
theorem dX2_copy_14 : decode cX2_copy 14 = .ok (.areturn, 1) := dk_176 (dk_at dksX2_copy_0 14 rfl rfl)
abbrev cX2_setAll : ByteArray := prog_6_method_2_code
def yX2_setAll : MethodName := ⟨RX2, "setAll", "(LEdgeLetters$Desk;)V"⟩
def dkwX2_setAll_0 : List UInt8 := [42, 180, 0, 10, 43, 180, 0, 10, 182, 0, 25, 42, 180, 0, 21, 43, 180, 0, 21, 182, 0, 28, 177]
abbrev dktX2_setAll_0 : List UInt8 := dkwX2_setAll_0 ++ []
theorem dksX2_setAll_0 : cX2_setAll.data.toList.drop 0 = dktX2_setAll_0 := by decide +kernel
theorem dX2_setAll_0 : decode cX2_setAll 0 = .ok (.aload_n 0, 1) := dk_42 (dk_at dksX2_setAll_0 0 rfl rfl)
theorem dX2_setAll_1 : decode cX2_setAll 1 = .ok (.getfield 10, 3) := dk_180 0 10 (dk_at dksX2_setAll_0 1 rfl rfl)
theorem dX2_setAll_4 : decode cX2_setAll 4 = .ok (.aload_n 1, 1) := dk_43 (dk_at dksX2_setAll_0 4 rfl rfl)
theorem dX2_setAll_5 : decode cX2_setAll 5 = .ok (.getfield 10, 3) := dk_180 0 10 (dk_at dksX2_setAll_0 5 rfl rfl)
theorem dX2_setAll_8 : decode cX2_setAll 8 = .ok (.invokevirtual 25, 3) := dk_182 0 25 (dk_at dksX2_setAll_0 8 rfl rfl)
theorem dX2_setAll_11 : decode cX2_setAll 11 = .ok (.aload_n 0, 1) := dk_42 (dk_at dksX2_setAll_0 11 rfl rfl)
theorem dX2_setAll_12 : decode cX2_setAll 12 = .ok (.getfield 21, 3) := dk_180 0 21 (dk_at dksX2_setAll_0 12 rfl rfl)
theorem dX2_setAll_15 : decode cX2_setAll 15 = .ok (.aload_n 1, 1) := dk_43 (dk_at dksX2_setAll_0 15 rfl rfl)
theorem dX2_setAll_16 : decode cX2_setAll 16 = .ok (.getfield 21, 3) := dk_180 0 21 (dk_at dksX2_setAll_0 16 rfl rfl)
theorem dX2_setAll_19 : decode cX2_setAll 19 = .ok (.invokevirtual 28, 3) := dk_182 0 28 (dk_at dksX2_setAll_0 19 rfl rfl)
theorem dX2_setAll_22 : decode cX2_setAll 22 = .ok (.return_, 1) := dk_177 (dk_at dksX2_setAll_0 22 rfl rfl)
theorem q120 : (Jvm.Cond.initialized "EdgeLetters$Desk") ∈ lw_all := lw_g (lw_at lw_m1 2 rfl) rfl
theorem q162 : (Jvm.Cond.instantiable "EdgeLetters$Desk" (2 : Nat)) ∈ lw_all := lw_g (lw_at lw_m1 44 rfl) rfl
theorem q164 : (Jvm.Cond.instanceMethod ({ cls := "EdgeLetters$Desk", name := "<init>", desc := "()V" } : Jvm.MethodName)) ∈ lw_all := lw_g (lw_at lw_m1 46 rfl) rfl
theorem q165 : (Jvm.Cond.code ({ cls := "EdgeLetters$Desk", name := "<init>", desc := "()V" } : Jvm.MethodName) prog_6_method_1_code (1 : Nat) (Option.none : Option Jvm.ClassFile.FieldType)) ∈ lw_all := lw_g (lw_at lw_m1 47 rfl) rfl
theorem q166 : (Jvm.Cond.methodLink "EdgeLetters$Desk" (1 : Nat) ({ cls := "java/lang/Object", name := "<init>", desc := "()V" } : Jvm.MethodName)) ∈ lw_all := lw_g (lw_at lw_m1 48 rfl) rfl
theorem q167 : (Jvm.Cond.classLink "EdgeLetters$Desk" (7 : Nat) "EdgeLetters$Puzzle") ∈ lw_all := lw_g (lw_at lw_m1 49 rfl) rfl
theorem q169 : (Jvm.Cond.methodLink "EdgeLetters$Desk" (9 : Nat) ({ cls := "EdgeLetters$Puzzle", name := "<init>", desc := "()V" } : Jvm.MethodName)) ∈ lw_all := lw_g (lw_at lw_m1 51 rfl) rfl
theorem q266 : (Jvm.Cond.selects "EdgeLetters$Desk" ({ cls := "java/lang/Object", name := "getClass", desc := "()Ljava/lang/Class;" } : Jvm.MethodName) ({ cls := "java/lang/Object", name := "getClass", desc := "()Ljava/lang/Class;" } : Jvm.MethodName)) ∈ lw_all := lw_g (lw_at lw_m1 148 rfl) rfl
theorem q357 : (Jvm.Cond.classLink "EdgeLetters$Desk" (16 : Nat) "EdgeLetters$Board") ∈ lw_all := lw_g (lw_at lw_m1 239 rfl) rfl
theorem q359 : (Jvm.Cond.methodLink "EdgeLetters$Desk" (18 : Nat) ({ cls := "EdgeLetters$Board", name := "<init>", desc := "(LEdgeLetters$Puzzle;)V" } : Jvm.MethodName)) ∈ lw_all := lw_g (lw_at lw_m2 1 rfl) rfl
theorem q387 : (Jvm.Cond.fieldLink "EdgeLetters$Desk" (10 : Nat) "EdgeLetters$Desk" "puzzle" "LEdgeLetters$Puzzle;") ∈ lw_all := lw_g (lw_at lw_m2 29 rfl) rfl
theorem q389 : (Jvm.Cond.fieldLink "EdgeLetters$Desk" (21 : Nat) "EdgeLetters$Desk" "board" "LEdgeLetters$Board;") ∈ lw_all := lw_g (lw_at lw_m2 31 rfl) rfl
theorem q391 : (Jvm.Cond.laysFinal "EdgeLetters$Desk" "EdgeLetters$Desk" "puzzle" "LEdgeLetters$Puzzle;") ∈ lw_all := lw_g (lw_at lw_m2 33 rfl) rfl
theorem q392 : (Jvm.Cond.soleField "EdgeLetters$Desk" "puzzle") ∈ lw_all := lw_g (lw_at lw_m2 34 rfl) rfl
theorem q393 : (Jvm.Cond.laysFinal "EdgeLetters$Desk" "EdgeLetters$Desk" "board" "LEdgeLetters$Board;") ∈ lw_all := lw_g (lw_at lw_m2 35 rfl) rfl
theorem q394 : (Jvm.Cond.soleField "EdgeLetters$Desk" "board") ∈ lw_all := lw_g (lw_at lw_m2 36 rfl) rfl
theorem q395 : (Jvm.Cond.superclass "EdgeLetters$Desk" "java/lang/Object") ∈ lw_all := lw_g (lw_at lw_m2 37 rfl) rfl
theorem q498 : (Jvm.Cond.instanceMethod ({ cls := "EdgeLetters$Desk", name := "copy", desc := "()LEdgeLetters$Desk;" } : Jvm.MethodName)) ∈ lw_all := lw_g (lw_at lw_m2 140 rfl) rfl
theorem q499 : (Jvm.Cond.selects "EdgeLetters$Desk" ({ cls := "EdgeLetters$Desk", name := "copy", desc := "()LEdgeLetters$Desk;" } : Jvm.MethodName) ({ cls := "EdgeLetters$Desk", name := "copy", desc := "()LEdgeLetters$Desk;" } : Jvm.MethodName)) ∈ lw_all := lw_g (lw_at lw_m2 141 rfl) rfl
theorem q500 : (Jvm.Cond.code ({ cls := "EdgeLetters$Desk", name := "copy", desc := "()LEdgeLetters$Desk;" } : Jvm.MethodName) prog_6_method_3_code (2 : Nat) (Option.some (Jvm.ClassFile.FieldType.object "EdgeLetters$Desk"))) ∈ lw_all := lw_g (lw_at lw_m2 142 rfl) rfl
theorem q501 : (Jvm.Cond.classLink "EdgeLetters$Desk" (11 : Nat) "EdgeLetters$Desk") ∈ lw_all := lw_g (lw_at lw_m2 143 rfl) rfl
theorem q502 : (Jvm.Cond.methodLink "EdgeLetters$Desk" (32 : Nat) ({ cls := "EdgeLetters$Desk", name := "<init>", desc := "()V" } : Jvm.MethodName)) ∈ lw_all := lw_g (lw_at lw_m2 144 rfl) rfl
theorem q503 : (Jvm.Cond.methodLink "EdgeLetters$Desk" (33 : Nat) ({ cls := "EdgeLetters$Desk", name := "setAll", desc := "(LEdgeLetters$Desk;)V" } : Jvm.MethodName)) ∈ lw_all := lw_g (lw_at lw_m2 145 rfl) rfl
theorem q504 : (Jvm.Cond.instanceMethod ({ cls := "EdgeLetters$Desk", name := "setAll", desc := "(LEdgeLetters$Desk;)V" } : Jvm.MethodName)) ∈ lw_all := lw_g (lw_at lw_m2 146 rfl) rfl
theorem q505 : (Jvm.Cond.selects "EdgeLetters$Desk" ({ cls := "EdgeLetters$Desk", name := "setAll", desc := "(LEdgeLetters$Desk;)V" } : Jvm.MethodName) ({ cls := "EdgeLetters$Desk", name := "setAll", desc := "(LEdgeLetters$Desk;)V" } : Jvm.MethodName)) ∈ lw_all := lw_g (lw_at lw_m2 147 rfl) rfl
theorem q506 : (Jvm.Cond.code ({ cls := "EdgeLetters$Desk", name := "setAll", desc := "(LEdgeLetters$Desk;)V" } : Jvm.MethodName) prog_6_method_2_code (2 : Nat) (Option.none : Option Jvm.ClassFile.FieldType)) ∈ lw_all := lw_g (lw_at lw_m2 148 rfl) rfl
theorem q507 : (Jvm.Cond.methodLink "EdgeLetters$Desk" (25 : Nat) ({ cls := "EdgeLetters$Puzzle", name := "setAll", desc := "(LEdgeLetters$Puzzle;)V" } : Jvm.MethodName)) ∈ lw_all := lw_g (lw_at lw_m2 149 rfl) rfl
theorem q512 : (Jvm.Cond.methodLink "EdgeLetters$Desk" (28 : Nat) ({ cls := "EdgeLetters$Board", name := "setThings", desc := "(LEdgeLetters$Board;)V" } : Jvm.MethodName)) ∈ lw_all := lw_g (lw_at lw_m2 154 rfl) rfl
theorem q2313 : (Jvm.Cond.castable "EdgeLetters$Desk" "java/lang/Object") ∈ lw_tbl := lw_at lw_m10 35 rfl
theorem in_X2 : ∀ w ∈ wsX20, w ∈ lw_all := lw_in wsX20 [391, 393] (by decide +kernel) (by decide +kernel)
/-! EdgeLetters$Puzzle -/
set_option maxRecDepth 100000
def RX3 : String := "EdgeLetters$Puzzle"
def TX3 : u_T := fun k => match k with
  | 0 => ("EdgeLetters$Puzzle", "tellings", "[I", true)
  | 1 => ("EdgeLetters$Puzzle", "lines", "[[I", true)
  | 2 => ("EdgeLetters$Puzzle", "linesOf", "[I", true)
  | 3 => ("EdgeLetters$Puzzle", "arrangements", "LEdgeLetters$Arrangements;", false)
  | 4 => ("EdgeLetters$Puzzle", "side", "I", false)
  | 5 => ("EdgeLetters$Puzzle", "letters", "I", false)
  | 6 => ("EdgeLetters$Puzzle", "seconds", "I", false)
  | _ => ("EdgeLetters$Puzzle", "diagonals", "Z", false)
def tyX3 : Nat → FieldType := fun k => match k with
  | 0 => .array .int
  | 1 => .array (.array .int)
  | 2 => .array .int
  | 3 => .object "EdgeLetters$Arrangements"
  | 4 => .int
  | 5 => .int
  | 6 => .int
  | _ => .boolean
abbrev wsX30 : List Cond := u_ws RX3 TX3 8
theorem nmX3 : ∀ a, a < 8 → ∀ b, b < 8 → a ≠ b → (TX3 a).2.1 ≠ (TX3 b).2.1 := by decide +kernel
theorem tyX3_ok : ∀ k, k < 8 → parseFieldDescriptor (TX3 k).2.2.1 = some (tyX3 k) := by decide +kernel
abbrev cX3_init : ByteArray := prog_8_method_1_code
def yX3_init : MethodName := ⟨RX3, "<init>", "()V"⟩
def dkwX3_init_1 : List UInt8 := [16, 25, 188, 10, 181, 0, 20, 42, 7, 6, 182, 0, 23, 177]
abbrev dktX3_init_1 : List UInt8 := dkwX3_init_1 ++ []
def dkwX3_init_0 : List UInt8 := [42, 183, 0, 3, 42, 16, 20, 188, 10, 181, 0, 9, 42, 16, 12, 8, 197, 0, 15, 2, 181, 0, 17, 42]
abbrev dktX3_init_0 : List UInt8 := dkwX3_init_0 ++ dktX3_init_1
theorem dksX3_init_0 : cX3_init.data.toList.drop 0 = dktX3_init_0 := by decide +kernel
theorem dksX3_init_1 : cX3_init.data.toList.drop 24 = dktX3_init_1 := dk_seg dksX3_init_0 24 rfl rfl
theorem dX3_init_0 : decode cX3_init 0 = .ok (.aload_n 0, 1) := dk_42 (dk_at dksX3_init_0 0 rfl rfl)
theorem dX3_init_1 : decode cX3_init 1 = .ok (.invokespecial 3, 3) := dk_183 0 3 (dk_at dksX3_init_0 1 rfl rfl)
theorem dX3_init_4 : decode cX3_init 4 = .ok (.aload_n 0, 1) := dk_42 (dk_at dksX3_init_0 4 rfl rfl)
theorem dX3_init_5 : decode cX3_init 5 = .ok (.bipush 20, 2) := dk_16 20 (dk_at dksX3_init_0 5 rfl rfl)
theorem dX3_init_7 : decode cX3_init 7 = .ok (.newarray .int, 2) := dk_188_10 (dk_at dksX3_init_0 7 rfl rfl)
theorem dX3_init_9 : decode cX3_init 9 = .ok (.putfield 9, 3) := dk_181 0 9 (dk_at dksX3_init_0 9 rfl rfl)
theorem dX3_init_12 : decode cX3_init 12 = .ok (.aload_n 0, 1) := dk_42 (dk_at dksX3_init_0 12 rfl rfl)
theorem dX3_init_13 : decode cX3_init 13 = .ok (.bipush 12, 2) := dk_16 12 (dk_at dksX3_init_0 13 rfl rfl)
theorem dX3_init_15 : decode cX3_init 15 = .ok (.iconst 5, 1) := dk_8 (dk_at dksX3_init_0 15 rfl rfl)
theorem dX3_init_16 : decode cX3_init 16 = .ok (.multianewarray 15 2, 4) := by decide +kernel
theorem dX3_init_20 : decode cX3_init 20 = .ok (.putfield 17, 3) := dk_181 0 17 (dk_at dksX3_init_0 20 rfl rfl)
theorem dX3_init_23 : decode cX3_init 23 = .ok (.aload_n 0, 1) := dk_42 (dk_at dksX3_init_0 23 rfl rfl)
theorem dX3_init_24 : decode cX3_init 24 = .ok (.bipush 25, 2) := dk_16 25 (dk_at dksX3_init_1 0 rfl rfl)
theorem dX3_init_26 : decode cX3_init 26 = .ok (.newarray .int, 2) := dk_188_10 (dk_at dksX3_init_1 2 rfl rfl)
theorem dX3_init_28 : decode cX3_init 28 = .ok (.putfield 20, 3) := dk_181 0 20 (dk_at dksX3_init_1 4 rfl rfl)
theorem dX3_init_31 : decode cX3_init 31 = .ok (.aload_n 0, 1) := dk_42 (dk_at dksX3_init_1 7 rfl rfl)
theorem dX3_init_32 : decode cX3_init 32 = .ok (.iconst 4, 1) := dk_7 (dk_at dksX3_init_1 8 rfl rfl)
theorem dX3_init_33 : decode cX3_init 33 = .ok (.iconst 3, 1) := dk_6 (dk_at dksX3_init_1 9 rfl rfl)
theorem dX3_init_34 : decode cX3_init 34 = .ok (.invokevirtual 23, 3) := dk_182 0 23 (dk_at dksX3_init_1 10 rfl rfl)
theorem dX3_init_37 : decode cX3_init 37 = .ok (.return_, 1) := dk_177 (dk_at dksX3_init_1 13 rfl rfl)
abbrev cX3_begin : ByteArray := prog_8_method_2_code
def yX3_begin : MethodName := ⟨RX3, "begin", "(II)V"⟩
def dkwX3_begin_1 : List UInt8 := [16, 20, 162, 0, 16, 42, 180, 0, 9, 29, 2, 79, 132, 3, 1, 167, 255, 240, 42, 182, 0, 41, 177]
abbrev dktX3_begin_1 : List UInt8 := dkwX3_begin_1 ++ []
def dkwX3_begin_0 : List UInt8 := [42, 27, 181, 0, 27, 42, 28, 181, 0, 31, 42, 3, 181, 0, 34, 42, 3, 181, 0, 37, 3, 62, 29]
abbrev dktX3_begin_0 : List UInt8 := dkwX3_begin_0 ++ dktX3_begin_1
theorem dksX3_begin_0 : cX3_begin.data.toList.drop 0 = dktX3_begin_0 := by decide +kernel
theorem dksX3_begin_1 : cX3_begin.data.toList.drop 23 = dktX3_begin_1 := dk_seg dksX3_begin_0 23 rfl rfl
theorem dX3_begin_0 : decode cX3_begin 0 = .ok (.aload_n 0, 1) := dk_42 (dk_at dksX3_begin_0 0 rfl rfl)
theorem dX3_begin_1 : decode cX3_begin 1 = .ok (.iload_n 1, 1) := dk_27 (dk_at dksX3_begin_0 1 rfl rfl)
theorem dX3_begin_2 : decode cX3_begin 2 = .ok (.putfield 27, 3) := dk_181 0 27 (dk_at dksX3_begin_0 2 rfl rfl)
theorem dX3_begin_5 : decode cX3_begin 5 = .ok (.aload_n 0, 1) := dk_42 (dk_at dksX3_begin_0 5 rfl rfl)
theorem dX3_begin_6 : decode cX3_begin 6 = .ok (.iload_n 2, 1) := dk_28 (dk_at dksX3_begin_0 6 rfl rfl)
theorem dX3_begin_7 : decode cX3_begin 7 = .ok (.putfield 31, 3) := dk_181 0 31 (dk_at dksX3_begin_0 7 rfl rfl)
theorem dX3_begin_10 : decode cX3_begin 10 = .ok (.aload_n 0, 1) := dk_42 (dk_at dksX3_begin_0 10 rfl rfl)
theorem dX3_begin_11 : decode cX3_begin 11 = .ok (.iconst 0, 1) := dk_3 (dk_at dksX3_begin_0 11 rfl rfl)
theorem dX3_begin_12 : decode cX3_begin 12 = .ok (.putfield 34, 3) := dk_181 0 34 (dk_at dksX3_begin_0 12 rfl rfl)
theorem dX3_begin_15 : decode cX3_begin 15 = .ok (.aload_n 0, 1) := dk_42 (dk_at dksX3_begin_0 15 rfl rfl)
theorem dX3_begin_16 : decode cX3_begin 16 = .ok (.iconst 0, 1) := dk_3 (dk_at dksX3_begin_0 16 rfl rfl)
theorem dX3_begin_17 : decode cX3_begin 17 = .ok (.putfield 37, 3) := dk_181 0 37 (dk_at dksX3_begin_0 17 rfl rfl)
theorem dX3_begin_20 : decode cX3_begin 20 = .ok (.iconst 0, 1) := dk_3 (dk_at dksX3_begin_0 20 rfl rfl)
theorem dX3_begin_21 : decode cX3_begin 21 = .ok (.istore_n 3, 1) := dk_62 (dk_at dksX3_begin_0 21 rfl rfl)
theorem dX3_begin_22 : decode cX3_begin 22 = .ok (.iload_n 3, 1) := dk_29 (dk_at dksX3_begin_0 22 rfl rfl)
theorem dX3_begin_23 : decode cX3_begin 23 = .ok (.bipush 20, 2) := dk_16 20 (dk_at dksX3_begin_1 0 rfl rfl)
theorem dX3_begin_25 : decode cX3_begin 25 = .ok (.if_icmp .ge 16, 3) := dk_162 0 16 (dk_at dksX3_begin_1 2 rfl rfl)
theorem dX3_begin_28 : decode cX3_begin 28 = .ok (.aload_n 0, 1) := dk_42 (dk_at dksX3_begin_1 5 rfl rfl)
theorem dX3_begin_29 : decode cX3_begin 29 = .ok (.getfield 9, 3) := dk_180 0 9 (dk_at dksX3_begin_1 6 rfl rfl)
theorem dX3_begin_32 : decode cX3_begin 32 = .ok (.iload_n 3, 1) := dk_29 (dk_at dksX3_begin_1 9 rfl rfl)
theorem dX3_begin_33 : decode cX3_begin 33 = .ok (.iconst (-1), 1) := dk_2 (dk_at dksX3_begin_1 10 rfl rfl)
theorem dX3_begin_34 : decode cX3_begin 34 = .ok (.iastore, 1) := dk_79 (dk_at dksX3_begin_1 11 rfl rfl)
theorem dX3_begin_35 : decode cX3_begin 35 = .ok (.iinc 3 1, 3) := dk_132 3 1 (dk_at dksX3_begin_1 12 rfl rfl)
theorem dX3_begin_38 : decode cX3_begin 38 = .ok (.goto (-16), 3) := dk_167 255 240 (dk_at dksX3_begin_1 15 rfl rfl)
theorem dX3_begin_41 : decode cX3_begin 41 = .ok (.aload_n 0, 1) := dk_42 (dk_at dksX3_begin_1 18 rfl rfl)
theorem dX3_begin_42 : decode cX3_begin 42 = .ok (.invokevirtual 41, 3) := dk_182 0 41 (dk_at dksX3_begin_1 19 rfl rfl)
theorem dX3_begin_45 : decode cX3_begin 45 = .ok (.return_, 1) := dk_177 (dk_at dksX3_begin_1 22 rfl rfl)
abbrev cX3_prepare : ByteArray := prog_8_method_3_code
def yX3_prepare : MethodName := ⟨RX3, "prepare", "()V"⟩
def dkwX3_prepare_7 : List UInt8 := [167, 255, 196, 177]
abbrev dktX3_prepare_7 : List UInt8 := dkwX3_prepare_7 ++ []
def dkwX3_prepare_6 : List UInt8 := [180, 0, 17, 28, 50, 29, 46, 92, 46, 4, 28, 120, 128, 79, 132, 3, 1, 167, 255, 212, 132, 2, 1]
abbrev dktX3_prepare_6 : List UInt8 := dkwX3_prepare_6 ++ dktX3_prepare_7
def dkwX3_prepare_5 : List UInt8 := [162, 0, 42, 42, 180, 0, 17, 28, 50, 29, 42, 28, 29, 182, 0, 58, 79, 42, 180, 0, 20, 42]
abbrev dktX3_prepare_5 : List UInt8 := dkwX3_prepare_5 ++ dktX3_prepare_6
def dkwX3_prepare_4 : List UInt8 := [79, 132, 2, 1, 167, 255, 233, 3, 61, 28, 42, 182, 0, 54, 162, 0, 58, 3, 62, 29, 42, 180, 0, 27]
abbrev dktX3_prepare_4 : List UInt8 := dkwX3_prepare_4 ++ dktX3_prepare_5
def dkwX3_prepare_3 : List UInt8 := [181, 0, 44, 3, 61, 28, 42, 180, 0, 27, 42, 180, 0, 27, 104, 162, 0, 16, 42, 180, 0, 20, 28, 3]
abbrev dktX3_prepare_3 : List UInt8 := dkwX3_prepare_3 ++ dktX3_prepare_4
def dkwX3_prepare_2 : List UInt8 := [42, 180, 0, 44, 167, 0, 18, 187, 0, 49, 89, 42, 180, 0, 27, 42, 180, 0, 31, 183, 0, 52]
abbrev dktX3_prepare_2 : List UInt8 := dkwX3_prepare_2 ++ dktX3_prepare_3
def dkwX3_prepare_1 : List UInt8 := [180, 0, 44, 180, 0, 51, 42, 180, 0, 31, 160, 0, 7, 4, 167, 0, 4, 3, 60, 42, 27, 153, 0, 10]
abbrev dktX3_prepare_1 : List UInt8 := dkwX3_prepare_1 ++ dktX3_prepare_2
def dkwX3_prepare_0 : List UInt8 := [42, 180, 0, 44, 198, 0, 35, 42, 180, 0, 44, 180, 0, 48, 42, 180, 0, 27, 160, 0, 21, 42]
abbrev dktX3_prepare_0 : List UInt8 := dkwX3_prepare_0 ++ dktX3_prepare_1
theorem dksX3_prepare_0 : cX3_prepare.data.toList.drop 0 = dktX3_prepare_0 := by decide +kernel
theorem dksX3_prepare_1 : cX3_prepare.data.toList.drop 22 = dktX3_prepare_1 := dk_seg dksX3_prepare_0 22 rfl rfl
theorem dksX3_prepare_2 : cX3_prepare.data.toList.drop 46 = dktX3_prepare_2 := dk_seg dksX3_prepare_1 24 rfl rfl
theorem dksX3_prepare_3 : cX3_prepare.data.toList.drop 68 = dktX3_prepare_3 := dk_seg dksX3_prepare_2 22 rfl rfl
theorem dksX3_prepare_4 : cX3_prepare.data.toList.drop 92 = dktX3_prepare_4 := dk_seg dksX3_prepare_3 24 rfl rfl
theorem dksX3_prepare_5 : cX3_prepare.data.toList.drop 116 = dktX3_prepare_5 := dk_seg dksX3_prepare_4 24 rfl rfl
theorem dksX3_prepare_6 : cX3_prepare.data.toList.drop 138 = dktX3_prepare_6 := dk_seg dksX3_prepare_5 22 rfl rfl
theorem dksX3_prepare_7 : cX3_prepare.data.toList.drop 161 = dktX3_prepare_7 := dk_seg dksX3_prepare_6 23 rfl rfl
theorem dX3_prepare_0 : decode cX3_prepare 0 = .ok (.aload_n 0, 1) := dk_42 (dk_at dksX3_prepare_0 0 rfl rfl)
theorem dX3_prepare_1 : decode cX3_prepare 1 = .ok (.getfield 44, 3) := dk_180 0 44 (dk_at dksX3_prepare_0 1 rfl rfl)
theorem dX3_prepare_4 : decode cX3_prepare 4 = .ok (.ifnull 35, 3) := dk_198 0 35 (dk_at dksX3_prepare_0 4 rfl rfl)
theorem dX3_prepare_7 : decode cX3_prepare 7 = .ok (.aload_n 0, 1) := dk_42 (dk_at dksX3_prepare_0 7 rfl rfl)
theorem dX3_prepare_8 : decode cX3_prepare 8 = .ok (.getfield 44, 3) := dk_180 0 44 (dk_at dksX3_prepare_0 8 rfl rfl)
theorem dX3_prepare_11 : decode cX3_prepare 11 = .ok (.getfield 48, 3) := dk_180 0 48 (dk_at dksX3_prepare_0 11 rfl rfl)
theorem dX3_prepare_14 : decode cX3_prepare 14 = .ok (.aload_n 0, 1) := dk_42 (dk_at dksX3_prepare_0 14 rfl rfl)
theorem dX3_prepare_15 : decode cX3_prepare 15 = .ok (.getfield 27, 3) := dk_180 0 27 (dk_at dksX3_prepare_0 15 rfl rfl)
theorem dX3_prepare_18 : decode cX3_prepare 18 = .ok (.if_icmp .ne 21, 3) := dk_160 0 21 (dk_at dksX3_prepare_0 18 rfl rfl)
theorem dX3_prepare_21 : decode cX3_prepare 21 = .ok (.aload_n 0, 1) := dk_42 (dk_at dksX3_prepare_0 21 rfl rfl)
theorem dX3_prepare_22 : decode cX3_prepare 22 = .ok (.getfield 44, 3) := dk_180 0 44 (dk_at dksX3_prepare_1 0 rfl rfl)
theorem dX3_prepare_25 : decode cX3_prepare 25 = .ok (.getfield 51, 3) := dk_180 0 51 (dk_at dksX3_prepare_1 3 rfl rfl)
theorem dX3_prepare_28 : decode cX3_prepare 28 = .ok (.aload_n 0, 1) := dk_42 (dk_at dksX3_prepare_1 6 rfl rfl)
theorem dX3_prepare_29 : decode cX3_prepare 29 = .ok (.getfield 31, 3) := dk_180 0 31 (dk_at dksX3_prepare_1 7 rfl rfl)
theorem dX3_prepare_32 : decode cX3_prepare 32 = .ok (.if_icmp .ne 7, 3) := dk_160 0 7 (dk_at dksX3_prepare_1 10 rfl rfl)
theorem dX3_prepare_35 : decode cX3_prepare 35 = .ok (.iconst 1, 1) := dk_4 (dk_at dksX3_prepare_1 13 rfl rfl)
theorem dX3_prepare_36 : decode cX3_prepare 36 = .ok (.goto 4, 3) := dk_167 0 4 (dk_at dksX3_prepare_1 14 rfl rfl)
theorem dX3_prepare_39 : decode cX3_prepare 39 = .ok (.iconst 0, 1) := dk_3 (dk_at dksX3_prepare_1 17 rfl rfl)
theorem dX3_prepare_40 : decode cX3_prepare 40 = .ok (.istore_n 1, 1) := dk_60 (dk_at dksX3_prepare_1 18 rfl rfl)
theorem dX3_prepare_41 : decode cX3_prepare 41 = .ok (.aload_n 0, 1) := dk_42 (dk_at dksX3_prepare_1 19 rfl rfl)
theorem dX3_prepare_42 : decode cX3_prepare 42 = .ok (.iload_n 1, 1) := dk_27 (dk_at dksX3_prepare_1 20 rfl rfl)
theorem dX3_prepare_43 : decode cX3_prepare 43 = .ok (.ifCond .eq 10, 3) := dk_153 0 10 (dk_at dksX3_prepare_1 21 rfl rfl)
theorem dX3_prepare_46 : decode cX3_prepare 46 = .ok (.aload_n 0, 1) := dk_42 (dk_at dksX3_prepare_2 0 rfl rfl)
theorem dX3_prepare_47 : decode cX3_prepare 47 = .ok (.getfield 44, 3) := dk_180 0 44 (dk_at dksX3_prepare_2 1 rfl rfl)
theorem dX3_prepare_50 : decode cX3_prepare 50 = .ok (.goto 18, 3) := dk_167 0 18 (dk_at dksX3_prepare_2 4 rfl rfl)
theorem dX3_prepare_53 : decode cX3_prepare 53 = .ok (.new 49, 3) := dk_187 0 49 (dk_at dksX3_prepare_2 7 rfl rfl)
theorem dX3_prepare_56 : decode cX3_prepare 56 = .ok (.dup, 1) := dk_89 (dk_at dksX3_prepare_2 10 rfl rfl)
theorem dX3_prepare_57 : decode cX3_prepare 57 = .ok (.aload_n 0, 1) := dk_42 (dk_at dksX3_prepare_2 11 rfl rfl)
theorem dX3_prepare_58 : decode cX3_prepare 58 = .ok (.getfield 27, 3) := dk_180 0 27 (dk_at dksX3_prepare_2 12 rfl rfl)
theorem dX3_prepare_61 : decode cX3_prepare 61 = .ok (.aload_n 0, 1) := dk_42 (dk_at dksX3_prepare_2 15 rfl rfl)
theorem dX3_prepare_62 : decode cX3_prepare 62 = .ok (.getfield 31, 3) := dk_180 0 31 (dk_at dksX3_prepare_2 16 rfl rfl)
theorem dX3_prepare_65 : decode cX3_prepare 65 = .ok (.invokespecial 52, 3) := dk_183 0 52 (dk_at dksX3_prepare_2 19 rfl rfl)
theorem dX3_prepare_68 : decode cX3_prepare 68 = .ok (.putfield 44, 3) := dk_181 0 44 (dk_at dksX3_prepare_3 0 rfl rfl)
theorem dX3_prepare_71 : decode cX3_prepare 71 = .ok (.iconst 0, 1) := dk_3 (dk_at dksX3_prepare_3 3 rfl rfl)
theorem dX3_prepare_72 : decode cX3_prepare 72 = .ok (.istore_n 2, 1) := dk_61 (dk_at dksX3_prepare_3 4 rfl rfl)
theorem dX3_prepare_73 : decode cX3_prepare 73 = .ok (.iload_n 2, 1) := dk_28 (dk_at dksX3_prepare_3 5 rfl rfl)
theorem dX3_prepare_74 : decode cX3_prepare 74 = .ok (.aload_n 0, 1) := dk_42 (dk_at dksX3_prepare_3 6 rfl rfl)
theorem dX3_prepare_75 : decode cX3_prepare 75 = .ok (.getfield 27, 3) := dk_180 0 27 (dk_at dksX3_prepare_3 7 rfl rfl)
theorem dX3_prepare_78 : decode cX3_prepare 78 = .ok (.aload_n 0, 1) := dk_42 (dk_at dksX3_prepare_3 10 rfl rfl)
theorem dX3_prepare_79 : decode cX3_prepare 79 = .ok (.getfield 27, 3) := dk_180 0 27 (dk_at dksX3_prepare_3 11 rfl rfl)
theorem dX3_prepare_82 : decode cX3_prepare 82 = .ok (.imul, 1) := dk_104 (dk_at dksX3_prepare_3 14 rfl rfl)
theorem dX3_prepare_83 : decode cX3_prepare 83 = .ok (.if_icmp .ge 16, 3) := dk_162 0 16 (dk_at dksX3_prepare_3 15 rfl rfl)
theorem dX3_prepare_86 : decode cX3_prepare 86 = .ok (.aload_n 0, 1) := dk_42 (dk_at dksX3_prepare_3 18 rfl rfl)
theorem dX3_prepare_87 : decode cX3_prepare 87 = .ok (.getfield 20, 3) := dk_180 0 20 (dk_at dksX3_prepare_3 19 rfl rfl)
theorem dX3_prepare_90 : decode cX3_prepare 90 = .ok (.iload_n 2, 1) := dk_28 (dk_at dksX3_prepare_3 22 rfl rfl)
theorem dX3_prepare_91 : decode cX3_prepare 91 = .ok (.iconst 0, 1) := dk_3 (dk_at dksX3_prepare_3 23 rfl rfl)
theorem dX3_prepare_92 : decode cX3_prepare 92 = .ok (.iastore, 1) := dk_79 (dk_at dksX3_prepare_4 0 rfl rfl)
theorem dX3_prepare_93 : decode cX3_prepare 93 = .ok (.iinc 2 1, 3) := dk_132 2 1 (dk_at dksX3_prepare_4 1 rfl rfl)
theorem dX3_prepare_96 : decode cX3_prepare 96 = .ok (.goto (-23), 3) := dk_167 255 233 (dk_at dksX3_prepare_4 4 rfl rfl)
theorem dX3_prepare_99 : decode cX3_prepare 99 = .ok (.iconst 0, 1) := dk_3 (dk_at dksX3_prepare_4 7 rfl rfl)
theorem dX3_prepare_100 : decode cX3_prepare 100 = .ok (.istore_n 2, 1) := dk_61 (dk_at dksX3_prepare_4 8 rfl rfl)
theorem dX3_prepare_101 : decode cX3_prepare 101 = .ok (.iload_n 2, 1) := dk_28 (dk_at dksX3_prepare_4 9 rfl rfl)
theorem dX3_prepare_102 : decode cX3_prepare 102 = .ok (.aload_n 0, 1) := dk_42 (dk_at dksX3_prepare_4 10 rfl rfl)
theorem dX3_prepare_103 : decode cX3_prepare 103 = .ok (.invokevirtual 54, 3) := dk_182 0 54 (dk_at dksX3_prepare_4 11 rfl rfl)
theorem dX3_prepare_106 : decode cX3_prepare 106 = .ok (.if_icmp .ge 58, 3) := dk_162 0 58 (dk_at dksX3_prepare_4 14 rfl rfl)
theorem dX3_prepare_109 : decode cX3_prepare 109 = .ok (.iconst 0, 1) := dk_3 (dk_at dksX3_prepare_4 17 rfl rfl)
theorem dX3_prepare_110 : decode cX3_prepare 110 = .ok (.istore_n 3, 1) := dk_62 (dk_at dksX3_prepare_4 18 rfl rfl)
theorem dX3_prepare_111 : decode cX3_prepare 111 = .ok (.iload_n 3, 1) := dk_29 (dk_at dksX3_prepare_4 19 rfl rfl)
theorem dX3_prepare_112 : decode cX3_prepare 112 = .ok (.aload_n 0, 1) := dk_42 (dk_at dksX3_prepare_4 20 rfl rfl)
theorem dX3_prepare_113 : decode cX3_prepare 113 = .ok (.getfield 27, 3) := dk_180 0 27 (dk_at dksX3_prepare_4 21 rfl rfl)
theorem dX3_prepare_116 : decode cX3_prepare 116 = .ok (.if_icmp .ge 42, 3) := dk_162 0 42 (dk_at dksX3_prepare_5 0 rfl rfl)
theorem dX3_prepare_119 : decode cX3_prepare 119 = .ok (.aload_n 0, 1) := dk_42 (dk_at dksX3_prepare_5 3 rfl rfl)
theorem dX3_prepare_120 : decode cX3_prepare 120 = .ok (.getfield 17, 3) := dk_180 0 17 (dk_at dksX3_prepare_5 4 rfl rfl)
theorem dX3_prepare_123 : decode cX3_prepare 123 = .ok (.iload_n 2, 1) := dk_28 (dk_at dksX3_prepare_5 7 rfl rfl)
theorem dX3_prepare_124 : decode cX3_prepare 124 = .ok (.aaload, 1) := dk_50 (dk_at dksX3_prepare_5 8 rfl rfl)
theorem dX3_prepare_125 : decode cX3_prepare 125 = .ok (.iload_n 3, 1) := dk_29 (dk_at dksX3_prepare_5 9 rfl rfl)
theorem dX3_prepare_126 : decode cX3_prepare 126 = .ok (.aload_n 0, 1) := dk_42 (dk_at dksX3_prepare_5 10 rfl rfl)
theorem dX3_prepare_127 : decode cX3_prepare 127 = .ok (.iload_n 2, 1) := dk_28 (dk_at dksX3_prepare_5 11 rfl rfl)
theorem dX3_prepare_128 : decode cX3_prepare 128 = .ok (.iload_n 3, 1) := dk_29 (dk_at dksX3_prepare_5 12 rfl rfl)
theorem dX3_prepare_129 : decode cX3_prepare 129 = .ok (.invokevirtual 58, 3) := dk_182 0 58 (dk_at dksX3_prepare_5 13 rfl rfl)
theorem dX3_prepare_132 : decode cX3_prepare 132 = .ok (.iastore, 1) := dk_79 (dk_at dksX3_prepare_5 16 rfl rfl)
theorem dX3_prepare_133 : decode cX3_prepare 133 = .ok (.aload_n 0, 1) := dk_42 (dk_at dksX3_prepare_5 17 rfl rfl)
theorem dX3_prepare_134 : decode cX3_prepare 134 = .ok (.getfield 20, 3) := dk_180 0 20 (dk_at dksX3_prepare_5 18 rfl rfl)
theorem dX3_prepare_137 : decode cX3_prepare 137 = .ok (.aload_n 0, 1) := dk_42 (dk_at dksX3_prepare_5 21 rfl rfl)
theorem dX3_prepare_138 : decode cX3_prepare 138 = .ok (.getfield 17, 3) := dk_180 0 17 (dk_at dksX3_prepare_6 0 rfl rfl)
theorem dX3_prepare_141 : decode cX3_prepare 141 = .ok (.iload_n 2, 1) := dk_28 (dk_at dksX3_prepare_6 3 rfl rfl)
theorem dX3_prepare_142 : decode cX3_prepare 142 = .ok (.aaload, 1) := dk_50 (dk_at dksX3_prepare_6 4 rfl rfl)
theorem dX3_prepare_143 : decode cX3_prepare 143 = .ok (.iload_n 3, 1) := dk_29 (dk_at dksX3_prepare_6 5 rfl rfl)
theorem dX3_prepare_144 : decode cX3_prepare 144 = .ok (.iaload, 1) := dk_46 (dk_at dksX3_prepare_6 6 rfl rfl)
theorem dX3_prepare_145 : decode cX3_prepare 145 = .ok (.dup2, 1) := dk_92 (dk_at dksX3_prepare_6 7 rfl rfl)
theorem dX3_prepare_146 : decode cX3_prepare 146 = .ok (.iaload, 1) := dk_46 (dk_at dksX3_prepare_6 8 rfl rfl)
theorem dX3_prepare_147 : decode cX3_prepare 147 = .ok (.iconst 1, 1) := dk_4 (dk_at dksX3_prepare_6 9 rfl rfl)
theorem dX3_prepare_148 : decode cX3_prepare 148 = .ok (.iload_n 2, 1) := dk_28 (dk_at dksX3_prepare_6 10 rfl rfl)
theorem dX3_prepare_149 : decode cX3_prepare 149 = .ok (.ishl, 1) := dk_120 (dk_at dksX3_prepare_6 11 rfl rfl)
theorem dX3_prepare_150 : decode cX3_prepare 150 = .ok (.ior, 1) := dk_128 (dk_at dksX3_prepare_6 12 rfl rfl)
theorem dX3_prepare_151 : decode cX3_prepare 151 = .ok (.iastore, 1) := dk_79 (dk_at dksX3_prepare_6 13 rfl rfl)
theorem dX3_prepare_152 : decode cX3_prepare 152 = .ok (.iinc 3 1, 3) := dk_132 3 1 (dk_at dksX3_prepare_6 14 rfl rfl)
theorem dX3_prepare_155 : decode cX3_prepare 155 = .ok (.goto (-44), 3) := dk_167 255 212 (dk_at dksX3_prepare_6 17 rfl rfl)
theorem dX3_prepare_158 : decode cX3_prepare 158 = .ok (.iinc 2 1, 3) := dk_132 2 1 (dk_at dksX3_prepare_6 20 rfl rfl)
theorem dX3_prepare_161 : decode cX3_prepare 161 = .ok (.goto (-60), 3) := dk_167 255 196 (dk_at dksX3_prepare_7 0 rfl rfl)
theorem dX3_prepare_164 : decode cX3_prepare 164 = .ok (.return_, 1) := dk_177 (dk_at dksX3_prepare_7 3 rfl rfl)
abbrev cX3_lineCount : ByteArray := prog_8_method_6_code
def yX3_lineCount : MethodName := ⟨RX3, "lineCount", "()I"⟩
def dkwX3_lineCount_0 : List UInt8 := [5, 42, 180, 0, 27, 104, 42, 180, 0, 37, 153, 0, 7, 5, 167, 0, 4, 3, 96, 172]
abbrev dktX3_lineCount_0 : List UInt8 := dkwX3_lineCount_0 ++ []
theorem dksX3_lineCount_0 : cX3_lineCount.data.toList.drop 0 = dktX3_lineCount_0 := by decide +kernel
theorem dX3_lineCount_0 : decode cX3_lineCount 0 = .ok (.iconst 2, 1) := dk_5 (dk_at dksX3_lineCount_0 0 rfl rfl)
theorem dX3_lineCount_1 : decode cX3_lineCount 1 = .ok (.aload_n 0, 1) := dk_42 (dk_at dksX3_lineCount_0 1 rfl rfl)
theorem dX3_lineCount_2 : decode cX3_lineCount 2 = .ok (.getfield 27, 3) := dk_180 0 27 (dk_at dksX3_lineCount_0 2 rfl rfl)
theorem dX3_lineCount_5 : decode cX3_lineCount 5 = .ok (.imul, 1) := dk_104 (dk_at dksX3_lineCount_0 5 rfl rfl)
theorem dX3_lineCount_6 : decode cX3_lineCount 6 = .ok (.aload_n 0, 1) := dk_42 (dk_at dksX3_lineCount_0 6 rfl rfl)
theorem dX3_lineCount_7 : decode cX3_lineCount 7 = .ok (.getfield 37, 3) := dk_180 0 37 (dk_at dksX3_lineCount_0 7 rfl rfl)
theorem dX3_lineCount_10 : decode cX3_lineCount 10 = .ok (.ifCond .eq 7, 3) := dk_153 0 7 (dk_at dksX3_lineCount_0 10 rfl rfl)
theorem dX3_lineCount_13 : decode cX3_lineCount 13 = .ok (.iconst 2, 1) := dk_5 (dk_at dksX3_lineCount_0 13 rfl rfl)
theorem dX3_lineCount_14 : decode cX3_lineCount 14 = .ok (.goto 4, 3) := dk_167 0 4 (dk_at dksX3_lineCount_0 14 rfl rfl)
theorem dX3_lineCount_17 : decode cX3_lineCount 17 = .ok (.iconst 0, 1) := dk_3 (dk_at dksX3_lineCount_0 17 rfl rfl)
theorem dX3_lineCount_18 : decode cX3_lineCount 18 = .ok (.iadd, 1) := dk_96 (dk_at dksX3_lineCount_0 18 rfl rfl)
theorem dX3_lineCount_19 : decode cX3_lineCount 19 = .ok (.ireturn, 1) := dk_172 (dk_at dksX3_lineCount_0 19 rfl rfl)
abbrev cX3_cellOf : ByteArray := prog_8_method_4_code
def yX3_cellOf : MethodName := ⟨RX3, "cellOf", "(II)I"⟩
def dkwX3_cellOf_3 : List UInt8 := [172]
abbrev dktX3_cellOf_3 : List UInt8 := dkwX3_cellOf_3 ++ []
def dkwX3_cellOf_2 : List UInt8 := [160, 0, 14, 42, 180, 0, 27, 4, 96, 28, 104, 167, 0, 13, 42, 180, 0, 27, 4, 100, 28, 4, 96, 104]
abbrev dktX3_cellOf_2 : List UInt8 := dkwX3_cellOf_2 ++ dktX3_cellOf_3
def dkwX3_cellOf_1 : List UInt8 := [162, 0, 17, 42, 180, 0, 27, 28, 104, 27, 96, 42, 180, 0, 27, 100, 172, 27, 5, 42, 180, 0, 27, 104]
abbrev dktX3_cellOf_1 : List UInt8 := dkwX3_cellOf_1 ++ dktX3_cellOf_2
def dkwX3_cellOf_0 : List UInt8 := [27, 42, 180, 0, 27, 162, 0, 12, 42, 180, 0, 27, 27, 104, 28, 96, 172, 27, 5, 42, 180, 0, 27, 104]
abbrev dktX3_cellOf_0 : List UInt8 := dkwX3_cellOf_0 ++ dktX3_cellOf_1
theorem dksX3_cellOf_0 : cX3_cellOf.data.toList.drop 0 = dktX3_cellOf_0 := by decide +kernel
theorem dksX3_cellOf_1 : cX3_cellOf.data.toList.drop 24 = dktX3_cellOf_1 := dk_seg dksX3_cellOf_0 24 rfl rfl
theorem dksX3_cellOf_2 : cX3_cellOf.data.toList.drop 48 = dktX3_cellOf_2 := dk_seg dksX3_cellOf_1 24 rfl rfl
theorem dksX3_cellOf_3 : cX3_cellOf.data.toList.drop 72 = dktX3_cellOf_3 := dk_seg dksX3_cellOf_2 24 rfl rfl
theorem dX3_cellOf_0 : decode cX3_cellOf 0 = .ok (.iload_n 1, 1) := dk_27 (dk_at dksX3_cellOf_0 0 rfl rfl)
theorem dX3_cellOf_1 : decode cX3_cellOf 1 = .ok (.aload_n 0, 1) := dk_42 (dk_at dksX3_cellOf_0 1 rfl rfl)
theorem dX3_cellOf_2 : decode cX3_cellOf 2 = .ok (.getfield 27, 3) := dk_180 0 27 (dk_at dksX3_cellOf_0 2 rfl rfl)
theorem dX3_cellOf_5 : decode cX3_cellOf 5 = .ok (.if_icmp .ge 12, 3) := dk_162 0 12 (dk_at dksX3_cellOf_0 5 rfl rfl)
theorem dX3_cellOf_8 : decode cX3_cellOf 8 = .ok (.aload_n 0, 1) := dk_42 (dk_at dksX3_cellOf_0 8 rfl rfl)
theorem dX3_cellOf_9 : decode cX3_cellOf 9 = .ok (.getfield 27, 3) := dk_180 0 27 (dk_at dksX3_cellOf_0 9 rfl rfl)
theorem dX3_cellOf_12 : decode cX3_cellOf 12 = .ok (.iload_n 1, 1) := dk_27 (dk_at dksX3_cellOf_0 12 rfl rfl)
theorem dX3_cellOf_13 : decode cX3_cellOf 13 = .ok (.imul, 1) := dk_104 (dk_at dksX3_cellOf_0 13 rfl rfl)
theorem dX3_cellOf_14 : decode cX3_cellOf 14 = .ok (.iload_n 2, 1) := dk_28 (dk_at dksX3_cellOf_0 14 rfl rfl)
theorem dX3_cellOf_15 : decode cX3_cellOf 15 = .ok (.iadd, 1) := dk_96 (dk_at dksX3_cellOf_0 15 rfl rfl)
theorem dX3_cellOf_16 : decode cX3_cellOf 16 = .ok (.ireturn, 1) := dk_172 (dk_at dksX3_cellOf_0 16 rfl rfl)
theorem dX3_cellOf_17 : decode cX3_cellOf 17 = .ok (.iload_n 1, 1) := dk_27 (dk_at dksX3_cellOf_0 17 rfl rfl)
theorem dX3_cellOf_18 : decode cX3_cellOf 18 = .ok (.iconst 2, 1) := dk_5 (dk_at dksX3_cellOf_0 18 rfl rfl)
theorem dX3_cellOf_19 : decode cX3_cellOf 19 = .ok (.aload_n 0, 1) := dk_42 (dk_at dksX3_cellOf_0 19 rfl rfl)
theorem dX3_cellOf_20 : decode cX3_cellOf 20 = .ok (.getfield 27, 3) := dk_180 0 27 (dk_at dksX3_cellOf_0 20 rfl rfl)
theorem dX3_cellOf_23 : decode cX3_cellOf 23 = .ok (.imul, 1) := dk_104 (dk_at dksX3_cellOf_0 23 rfl rfl)
theorem dX3_cellOf_24 : decode cX3_cellOf 24 = .ok (.if_icmp .ge 17, 3) := dk_162 0 17 (dk_at dksX3_cellOf_1 0 rfl rfl)
theorem dX3_cellOf_27 : decode cX3_cellOf 27 = .ok (.aload_n 0, 1) := dk_42 (dk_at dksX3_cellOf_1 3 rfl rfl)
theorem dX3_cellOf_28 : decode cX3_cellOf 28 = .ok (.getfield 27, 3) := dk_180 0 27 (dk_at dksX3_cellOf_1 4 rfl rfl)
theorem dX3_cellOf_31 : decode cX3_cellOf 31 = .ok (.iload_n 2, 1) := dk_28 (dk_at dksX3_cellOf_1 7 rfl rfl)
theorem dX3_cellOf_32 : decode cX3_cellOf 32 = .ok (.imul, 1) := dk_104 (dk_at dksX3_cellOf_1 8 rfl rfl)
theorem dX3_cellOf_33 : decode cX3_cellOf 33 = .ok (.iload_n 1, 1) := dk_27 (dk_at dksX3_cellOf_1 9 rfl rfl)
theorem dX3_cellOf_34 : decode cX3_cellOf 34 = .ok (.iadd, 1) := dk_96 (dk_at dksX3_cellOf_1 10 rfl rfl)
theorem dX3_cellOf_35 : decode cX3_cellOf 35 = .ok (.aload_n 0, 1) := dk_42 (dk_at dksX3_cellOf_1 11 rfl rfl)
theorem dX3_cellOf_36 : decode cX3_cellOf 36 = .ok (.getfield 27, 3) := dk_180 0 27 (dk_at dksX3_cellOf_1 12 rfl rfl)
theorem dX3_cellOf_39 : decode cX3_cellOf 39 = .ok (.isub, 1) := dk_100 (dk_at dksX3_cellOf_1 15 rfl rfl)
theorem dX3_cellOf_40 : decode cX3_cellOf 40 = .ok (.ireturn, 1) := dk_172 (dk_at dksX3_cellOf_1 16 rfl rfl)
theorem dX3_cellOf_41 : decode cX3_cellOf 41 = .ok (.iload_n 1, 1) := dk_27 (dk_at dksX3_cellOf_1 17 rfl rfl)
theorem dX3_cellOf_42 : decode cX3_cellOf 42 = .ok (.iconst 2, 1) := dk_5 (dk_at dksX3_cellOf_1 18 rfl rfl)
theorem dX3_cellOf_43 : decode cX3_cellOf 43 = .ok (.aload_n 0, 1) := dk_42 (dk_at dksX3_cellOf_1 19 rfl rfl)
theorem dX3_cellOf_44 : decode cX3_cellOf 44 = .ok (.getfield 27, 3) := dk_180 0 27 (dk_at dksX3_cellOf_1 20 rfl rfl)
theorem dX3_cellOf_47 : decode cX3_cellOf 47 = .ok (.imul, 1) := dk_104 (dk_at dksX3_cellOf_1 23 rfl rfl)
theorem dX3_cellOf_48 : decode cX3_cellOf 48 = .ok (.if_icmp .ne 14, 3) := dk_160 0 14 (dk_at dksX3_cellOf_2 0 rfl rfl)
theorem dX3_cellOf_51 : decode cX3_cellOf 51 = .ok (.aload_n 0, 1) := dk_42 (dk_at dksX3_cellOf_2 3 rfl rfl)
theorem dX3_cellOf_52 : decode cX3_cellOf 52 = .ok (.getfield 27, 3) := dk_180 0 27 (dk_at dksX3_cellOf_2 4 rfl rfl)
theorem dX3_cellOf_55 : decode cX3_cellOf 55 = .ok (.iconst 1, 1) := dk_4 (dk_at dksX3_cellOf_2 7 rfl rfl)
theorem dX3_cellOf_56 : decode cX3_cellOf 56 = .ok (.iadd, 1) := dk_96 (dk_at dksX3_cellOf_2 8 rfl rfl)
theorem dX3_cellOf_57 : decode cX3_cellOf 57 = .ok (.iload_n 2, 1) := dk_28 (dk_at dksX3_cellOf_2 9 rfl rfl)
theorem dX3_cellOf_58 : decode cX3_cellOf 58 = .ok (.imul, 1) := dk_104 (dk_at dksX3_cellOf_2 10 rfl rfl)
theorem dX3_cellOf_59 : decode cX3_cellOf 59 = .ok (.goto 13, 3) := dk_167 0 13 (dk_at dksX3_cellOf_2 11 rfl rfl)
theorem dX3_cellOf_62 : decode cX3_cellOf 62 = .ok (.aload_n 0, 1) := dk_42 (dk_at dksX3_cellOf_2 14 rfl rfl)
theorem dX3_cellOf_63 : decode cX3_cellOf 63 = .ok (.getfield 27, 3) := dk_180 0 27 (dk_at dksX3_cellOf_2 15 rfl rfl)
theorem dX3_cellOf_66 : decode cX3_cellOf 66 = .ok (.iconst 1, 1) := dk_4 (dk_at dksX3_cellOf_2 18 rfl rfl)
theorem dX3_cellOf_67 : decode cX3_cellOf 67 = .ok (.isub, 1) := dk_100 (dk_at dksX3_cellOf_2 19 rfl rfl)
theorem dX3_cellOf_68 : decode cX3_cellOf 68 = .ok (.iload_n 2, 1) := dk_28 (dk_at dksX3_cellOf_2 20 rfl rfl)
theorem dX3_cellOf_69 : decode cX3_cellOf 69 = .ok (.iconst 1, 1) := dk_4 (dk_at dksX3_cellOf_2 21 rfl rfl)
theorem dX3_cellOf_70 : decode cX3_cellOf 70 = .ok (.iadd, 1) := dk_96 (dk_at dksX3_cellOf_2 22 rfl rfl)
theorem dX3_cellOf_71 : decode cX3_cellOf 71 = .ok (.imul, 1) := dk_104 (dk_at dksX3_cellOf_2 23 rfl rfl)
theorem dX3_cellOf_72 : decode cX3_cellOf 72 = .ok (.ireturn, 1) := dk_172 (dk_at dksX3_cellOf_3 0 rfl rfl)
abbrev cX3_cellCount : ByteArray := prog_8_method_7_code
def yX3_cellCount : MethodName := ⟨RX3, "cellCount", "()I"⟩
def dkwX3_cellCount_0 : List UInt8 := [42, 180, 0, 27, 42, 180, 0, 27, 104, 172]
abbrev dktX3_cellCount_0 : List UInt8 := dkwX3_cellCount_0 ++ []
theorem dksX3_cellCount_0 : cX3_cellCount.data.toList.drop 0 = dktX3_cellCount_0 := by decide +kernel
theorem dX3_cellCount_0 : decode cX3_cellCount 0 = .ok (.aload_n 0, 1) := dk_42 (dk_at dksX3_cellCount_0 0 rfl rfl)
theorem dX3_cellCount_1 : decode cX3_cellCount 1 = .ok (.getfield 27, 3) := dk_180 0 27 (dk_at dksX3_cellCount_0 1 rfl rfl)
theorem dX3_cellCount_4 : decode cX3_cellCount 4 = .ok (.aload_n 0, 1) := dk_42 (dk_at dksX3_cellCount_0 4 rfl rfl)
theorem dX3_cellCount_5 : decode cX3_cellCount 5 = .ok (.getfield 27, 3) := dk_180 0 27 (dk_at dksX3_cellCount_0 5 rfl rfl)
theorem dX3_cellCount_8 : decode cX3_cellCount 8 = .ok (.imul, 1) := dk_104 (dk_at dksX3_cellCount_0 8 rfl rfl)
theorem dX3_cellCount_9 : decode cX3_cellCount 9 = .ok (.ireturn, 1) := dk_172 (dk_at dksX3_cellCount_0 9 rfl rfl)
abbrev cX3_setAll : ByteArray := prog_8_method_5_code
def yX3_setAll : MethodName := ⟨RX3, "setAll", "(LEdgeLetters$Puzzle;)V"⟩
def dkwX3_setAll_2 : List UInt8 := [43, 180, 0, 44, 181, 0, 44, 42, 182, 0, 41, 177]
abbrev dktX3_setAll_2 : List UInt8 := dkwX3_setAll_2 ++ []
def dkwX3_setAll_1 : List UInt8 := [43, 180, 0, 31, 181, 0, 31, 42, 43, 180, 0, 34, 181, 0, 34, 42, 43, 180, 0, 37, 181, 0, 37, 42]
abbrev dktX3_setAll_1 : List UInt8 := dkwX3_setAll_1 ++ dktX3_setAll_2
def dkwX3_setAll_0 : List UInt8 := [43, 180, 0, 9, 3, 42, 180, 0, 9, 3, 16, 20, 184, 0, 62, 42, 43, 180, 0, 27, 181, 0, 27, 42]
abbrev dktX3_setAll_0 : List UInt8 := dkwX3_setAll_0 ++ dktX3_setAll_1
theorem dksX3_setAll_0 : cX3_setAll.data.toList.drop 0 = dktX3_setAll_0 := by decide +kernel
theorem dksX3_setAll_1 : cX3_setAll.data.toList.drop 24 = dktX3_setAll_1 := dk_seg dksX3_setAll_0 24 rfl rfl
theorem dksX3_setAll_2 : cX3_setAll.data.toList.drop 48 = dktX3_setAll_2 := dk_seg dksX3_setAll_1 24 rfl rfl
theorem dX3_setAll_0 : decode cX3_setAll 0 = .ok (.aload_n 1, 1) := dk_43 (dk_at dksX3_setAll_0 0 rfl rfl)
theorem dX3_setAll_1 : decode cX3_setAll 1 = .ok (.getfield 9, 3) := dk_180 0 9 (dk_at dksX3_setAll_0 1 rfl rfl)
theorem dX3_setAll_4 : decode cX3_setAll 4 = .ok (.iconst 0, 1) := dk_3 (dk_at dksX3_setAll_0 4 rfl rfl)
theorem dX3_setAll_5 : decode cX3_setAll 5 = .ok (.aload_n 0, 1) := dk_42 (dk_at dksX3_setAll_0 5 rfl rfl)
theorem dX3_setAll_6 : decode cX3_setAll 6 = .ok (.getfield 9, 3) := dk_180 0 9 (dk_at dksX3_setAll_0 6 rfl rfl)
theorem dX3_setAll_9 : decode cX3_setAll 9 = .ok (.iconst 0, 1) := dk_3 (dk_at dksX3_setAll_0 9 rfl rfl)
theorem dX3_setAll_10 : decode cX3_setAll 10 = .ok (.bipush 20, 2) := dk_16 20 (dk_at dksX3_setAll_0 10 rfl rfl)
theorem dX3_setAll_12 : decode cX3_setAll 12 = .ok (.invokestatic 62, 3) := dk_184 0 62 (dk_at dksX3_setAll_0 12 rfl rfl)
theorem dX3_setAll_15 : decode cX3_setAll 15 = .ok (.aload_n 0, 1) := dk_42 (dk_at dksX3_setAll_0 15 rfl rfl)
theorem dX3_setAll_16 : decode cX3_setAll 16 = .ok (.aload_n 1, 1) := dk_43 (dk_at dksX3_setAll_0 16 rfl rfl)
theorem dX3_setAll_17 : decode cX3_setAll 17 = .ok (.getfield 27, 3) := dk_180 0 27 (dk_at dksX3_setAll_0 17 rfl rfl)
theorem dX3_setAll_20 : decode cX3_setAll 20 = .ok (.putfield 27, 3) := dk_181 0 27 (dk_at dksX3_setAll_0 20 rfl rfl)
theorem dX3_setAll_23 : decode cX3_setAll 23 = .ok (.aload_n 0, 1) := dk_42 (dk_at dksX3_setAll_0 23 rfl rfl)
theorem dX3_setAll_24 : decode cX3_setAll 24 = .ok (.aload_n 1, 1) := dk_43 (dk_at dksX3_setAll_1 0 rfl rfl)
theorem dX3_setAll_25 : decode cX3_setAll 25 = .ok (.getfield 31, 3) := dk_180 0 31 (dk_at dksX3_setAll_1 1 rfl rfl)
theorem dX3_setAll_28 : decode cX3_setAll 28 = .ok (.putfield 31, 3) := dk_181 0 31 (dk_at dksX3_setAll_1 4 rfl rfl)
theorem dX3_setAll_31 : decode cX3_setAll 31 = .ok (.aload_n 0, 1) := dk_42 (dk_at dksX3_setAll_1 7 rfl rfl)
theorem dX3_setAll_32 : decode cX3_setAll 32 = .ok (.aload_n 1, 1) := dk_43 (dk_at dksX3_setAll_1 8 rfl rfl)
theorem dX3_setAll_33 : decode cX3_setAll 33 = .ok (.getfield 34, 3) := dk_180 0 34 (dk_at dksX3_setAll_1 9 rfl rfl)
theorem dX3_setAll_36 : decode cX3_setAll 36 = .ok (.putfield 34, 3) := dk_181 0 34 (dk_at dksX3_setAll_1 12 rfl rfl)
theorem dX3_setAll_39 : decode cX3_setAll 39 = .ok (.aload_n 0, 1) := dk_42 (dk_at dksX3_setAll_1 15 rfl rfl)
theorem dX3_setAll_40 : decode cX3_setAll 40 = .ok (.aload_n 1, 1) := dk_43 (dk_at dksX3_setAll_1 16 rfl rfl)
theorem dX3_setAll_41 : decode cX3_setAll 41 = .ok (.getfield 37, 3) := dk_180 0 37 (dk_at dksX3_setAll_1 17 rfl rfl)
theorem dX3_setAll_44 : decode cX3_setAll 44 = .ok (.putfield 37, 3) := dk_181 0 37 (dk_at dksX3_setAll_1 20 rfl rfl)
theorem dX3_setAll_47 : decode cX3_setAll 47 = .ok (.aload_n 0, 1) := dk_42 (dk_at dksX3_setAll_1 23 rfl rfl)
theorem dX3_setAll_48 : decode cX3_setAll 48 = .ok (.aload_n 1, 1) := dk_43 (dk_at dksX3_setAll_2 0 rfl rfl)
theorem dX3_setAll_49 : decode cX3_setAll 49 = .ok (.getfield 44, 3) := dk_180 0 44 (dk_at dksX3_setAll_2 1 rfl rfl)
theorem dX3_setAll_52 : decode cX3_setAll 52 = .ok (.putfield 44, 3) := dk_181 0 44 (dk_at dksX3_setAll_2 4 rfl rfl)
theorem dX3_setAll_55 : decode cX3_setAll 55 = .ok (.aload_n 0, 1) := dk_42 (dk_at dksX3_setAll_2 7 rfl rfl)
theorem dX3_setAll_56 : decode cX3_setAll 56 = .ok (.invokevirtual 41, 3) := dk_182 0 41 (dk_at dksX3_setAll_2 8 rfl rfl)
theorem dX3_setAll_59 : decode cX3_setAll 59 = .ok (.return_, 1) := dk_177 (dk_at dksX3_setAll_2 11 rfl rfl)
abbrev cX3_turnDiagonals : ByteArray := prog_8_method_10_code
def yX3_turnDiagonals : MethodName := ⟨RX3, "turnDiagonals", "()V"⟩
def dkwX3_turnDiagonals_0 : List UInt8 := [42, 42, 180, 0, 37, 154, 0, 7, 4, 167, 0, 4, 3, 181, 0, 37, 42, 182, 0, 41, 177]
abbrev dktX3_turnDiagonals_0 : List UInt8 := dkwX3_turnDiagonals_0 ++ []
theorem dksX3_turnDiagonals_0 : cX3_turnDiagonals.data.toList.drop 0 = dktX3_turnDiagonals_0 := by decide +kernel
theorem dX3_turnDiagonals_0 : decode cX3_turnDiagonals 0 = .ok (.aload_n 0, 1) := dk_42 (dk_at dksX3_turnDiagonals_0 0 rfl rfl)
theorem dX3_turnDiagonals_1 : decode cX3_turnDiagonals 1 = .ok (.aload_n 0, 1) := dk_42 (dk_at dksX3_turnDiagonals_0 1 rfl rfl)
theorem dX3_turnDiagonals_2 : decode cX3_turnDiagonals 2 = .ok (.getfield 37, 3) := dk_180 0 37 (dk_at dksX3_turnDiagonals_0 2 rfl rfl)
theorem dX3_turnDiagonals_5 : decode cX3_turnDiagonals 5 = .ok (.ifCond .ne 7, 3) := dk_154 0 7 (dk_at dksX3_turnDiagonals_0 5 rfl rfl)
theorem dX3_turnDiagonals_8 : decode cX3_turnDiagonals 8 = .ok (.iconst 1, 1) := dk_4 (dk_at dksX3_turnDiagonals_0 8 rfl rfl)
theorem dX3_turnDiagonals_9 : decode cX3_turnDiagonals 9 = .ok (.goto 4, 3) := dk_167 0 4 (dk_at dksX3_turnDiagonals_0 9 rfl rfl)
theorem dX3_turnDiagonals_12 : decode cX3_turnDiagonals 12 = .ok (.iconst 0, 1) := dk_3 (dk_at dksX3_turnDiagonals_0 12 rfl rfl)
theorem dX3_turnDiagonals_13 : decode cX3_turnDiagonals 13 = .ok (.putfield 37, 3) := dk_181 0 37 (dk_at dksX3_turnDiagonals_0 13 rfl rfl)
theorem dX3_turnDiagonals_16 : decode cX3_turnDiagonals 16 = .ok (.aload_n 0, 1) := dk_42 (dk_at dksX3_turnDiagonals_0 16 rfl rfl)
theorem dX3_turnDiagonals_17 : decode cX3_turnDiagonals 17 = .ok (.invokevirtual 41, 3) := dk_182 0 41 (dk_at dksX3_turnDiagonals_0 17 rfl rfl)
theorem dX3_turnDiagonals_20 : decode cX3_turnDiagonals 20 = .ok (.return_, 1) := dk_177 (dk_at dksX3_turnDiagonals_0 20 rfl rfl)
abbrev cX3_edgeCount : ByteArray := prog_8_method_8_code
def yX3_edgeCount : MethodName := ⟨RX3, "edgeCount", "()I"⟩
def dkwX3_edgeCount_0 : List UInt8 := [7, 42, 180, 0, 27, 104, 172]
abbrev dktX3_edgeCount_0 : List UInt8 := dkwX3_edgeCount_0 ++ []
theorem dksX3_edgeCount_0 : cX3_edgeCount.data.toList.drop 0 = dktX3_edgeCount_0 := by decide +kernel
theorem dX3_edgeCount_0 : decode cX3_edgeCount 0 = .ok (.iconst 4, 1) := dk_7 (dk_at dksX3_edgeCount_0 0 rfl rfl)
theorem dX3_edgeCount_1 : decode cX3_edgeCount 1 = .ok (.aload_n 0, 1) := dk_42 (dk_at dksX3_edgeCount_0 1 rfl rfl)
theorem dX3_edgeCount_2 : decode cX3_edgeCount 2 = .ok (.getfield 27, 3) := dk_180 0 27 (dk_at dksX3_edgeCount_0 2 rfl rfl)
theorem dX3_edgeCount_5 : decode cX3_edgeCount 5 = .ok (.imul, 1) := dk_104 (dk_at dksX3_edgeCount_0 5 rfl rfl)
theorem dX3_edgeCount_6 : decode cX3_edgeCount 6 = .ok (.ireturn, 1) := dk_172 (dk_at dksX3_edgeCount_0 6 rfl rfl)
abbrev cX3_lineAt : ByteArray := prog_8_method_13_code
def yX3_lineAt : MethodName := ⟨RX3, "lineAt", "(I)I"⟩
def dkwX3_lineAt_1 : List UInt8 := [167, 0, 9, 27, 42, 180, 0, 27, 112, 172]
abbrev dktX3_lineAt_1 : List UInt8 := dkwX3_lineAt_1 ++ []
def dkwX3_lineAt_0 : List UInt8 := [27, 42, 180, 0, 27, 108, 61, 28, 5, 112, 154, 0, 17, 42, 180, 0, 27, 27, 42, 180, 0, 27, 112, 96]
abbrev dktX3_lineAt_0 : List UInt8 := dkwX3_lineAt_0 ++ dktX3_lineAt_1
theorem dksX3_lineAt_0 : cX3_lineAt.data.toList.drop 0 = dktX3_lineAt_0 := by decide +kernel
theorem dksX3_lineAt_1 : cX3_lineAt.data.toList.drop 24 = dktX3_lineAt_1 := dk_seg dksX3_lineAt_0 24 rfl rfl
theorem dX3_lineAt_0 : decode cX3_lineAt 0 = .ok (.iload_n 1, 1) := dk_27 (dk_at dksX3_lineAt_0 0 rfl rfl)
theorem dX3_lineAt_1 : decode cX3_lineAt 1 = .ok (.aload_n 0, 1) := dk_42 (dk_at dksX3_lineAt_0 1 rfl rfl)
theorem dX3_lineAt_2 : decode cX3_lineAt 2 = .ok (.getfield 27, 3) := dk_180 0 27 (dk_at dksX3_lineAt_0 2 rfl rfl)
theorem dX3_lineAt_5 : decode cX3_lineAt 5 = .ok (.idiv, 1) := dk_108 (dk_at dksX3_lineAt_0 5 rfl rfl)
theorem dX3_lineAt_6 : decode cX3_lineAt 6 = .ok (.istore_n 2, 1) := dk_61 (dk_at dksX3_lineAt_0 6 rfl rfl)
theorem dX3_lineAt_7 : decode cX3_lineAt 7 = .ok (.iload_n 2, 1) := dk_28 (dk_at dksX3_lineAt_0 7 rfl rfl)
theorem dX3_lineAt_8 : decode cX3_lineAt 8 = .ok (.iconst 2, 1) := dk_5 (dk_at dksX3_lineAt_0 8 rfl rfl)
theorem dX3_lineAt_9 : decode cX3_lineAt 9 = .ok (.irem, 1) := dk_112 (dk_at dksX3_lineAt_0 9 rfl rfl)
theorem dX3_lineAt_10 : decode cX3_lineAt 10 = .ok (.ifCond .ne 17, 3) := dk_154 0 17 (dk_at dksX3_lineAt_0 10 rfl rfl)
theorem dX3_lineAt_13 : decode cX3_lineAt 13 = .ok (.aload_n 0, 1) := dk_42 (dk_at dksX3_lineAt_0 13 rfl rfl)
theorem dX3_lineAt_14 : decode cX3_lineAt 14 = .ok (.getfield 27, 3) := dk_180 0 27 (dk_at dksX3_lineAt_0 14 rfl rfl)
theorem dX3_lineAt_17 : decode cX3_lineAt 17 = .ok (.iload_n 1, 1) := dk_27 (dk_at dksX3_lineAt_0 17 rfl rfl)
theorem dX3_lineAt_18 : decode cX3_lineAt 18 = .ok (.aload_n 0, 1) := dk_42 (dk_at dksX3_lineAt_0 18 rfl rfl)
theorem dX3_lineAt_19 : decode cX3_lineAt 19 = .ok (.getfield 27, 3) := dk_180 0 27 (dk_at dksX3_lineAt_0 19 rfl rfl)
theorem dX3_lineAt_22 : decode cX3_lineAt 22 = .ok (.irem, 1) := dk_112 (dk_at dksX3_lineAt_0 22 rfl rfl)
theorem dX3_lineAt_23 : decode cX3_lineAt 23 = .ok (.iadd, 1) := dk_96 (dk_at dksX3_lineAt_0 23 rfl rfl)
theorem dX3_lineAt_24 : decode cX3_lineAt 24 = .ok (.goto 9, 3) := dk_167 0 9 (dk_at dksX3_lineAt_1 0 rfl rfl)
theorem dX3_lineAt_27 : decode cX3_lineAt 27 = .ok (.iload_n 1, 1) := dk_27 (dk_at dksX3_lineAt_1 3 rfl rfl)
theorem dX3_lineAt_28 : decode cX3_lineAt 28 = .ok (.aload_n 0, 1) := dk_42 (dk_at dksX3_lineAt_1 4 rfl rfl)
theorem dX3_lineAt_29 : decode cX3_lineAt 29 = .ok (.getfield 27, 3) := dk_180 0 27 (dk_at dksX3_lineAt_1 5 rfl rfl)
theorem dX3_lineAt_32 : decode cX3_lineAt 32 = .ok (.irem, 1) := dk_112 (dk_at dksX3_lineAt_1 8 rfl rfl)
theorem dX3_lineAt_33 : decode cX3_lineAt 33 = .ok (.ireturn, 1) := dk_172 (dk_at dksX3_lineAt_1 9 rfl rfl)
abbrev cX3_looksBack : ByteArray := prog_8_method_14_code
def yX3_looksBack : MethodName := ⟨RX3, "looksBack", "(I)Z"⟩
def dkwX3_looksBack_1 : List UInt8 := [3, 172]
abbrev dktX3_looksBack_1 : List UInt8 := dkwX3_looksBack_1 ++ []
def dkwX3_looksBack_0 : List UInt8 := [27, 42, 180, 0, 27, 108, 4, 159, 0, 13, 27, 42, 180, 0, 27, 108, 5, 160, 0, 7, 4, 167, 0, 4]
abbrev dktX3_looksBack_0 : List UInt8 := dkwX3_looksBack_0 ++ dktX3_looksBack_1
theorem dksX3_looksBack_0 : cX3_looksBack.data.toList.drop 0 = dktX3_looksBack_0 := by decide +kernel
theorem dksX3_looksBack_1 : cX3_looksBack.data.toList.drop 24 = dktX3_looksBack_1 := dk_seg dksX3_looksBack_0 24 rfl rfl
theorem dX3_looksBack_0 : decode cX3_looksBack 0 = .ok (.iload_n 1, 1) := dk_27 (dk_at dksX3_looksBack_0 0 rfl rfl)
theorem dX3_looksBack_1 : decode cX3_looksBack 1 = .ok (.aload_n 0, 1) := dk_42 (dk_at dksX3_looksBack_0 1 rfl rfl)
theorem dX3_looksBack_2 : decode cX3_looksBack 2 = .ok (.getfield 27, 3) := dk_180 0 27 (dk_at dksX3_looksBack_0 2 rfl rfl)
theorem dX3_looksBack_5 : decode cX3_looksBack 5 = .ok (.idiv, 1) := dk_108 (dk_at dksX3_looksBack_0 5 rfl rfl)
theorem dX3_looksBack_6 : decode cX3_looksBack 6 = .ok (.iconst 1, 1) := dk_4 (dk_at dksX3_looksBack_0 6 rfl rfl)
theorem dX3_looksBack_7 : decode cX3_looksBack 7 = .ok (.if_icmp .eq 13, 3) := dk_159 0 13 (dk_at dksX3_looksBack_0 7 rfl rfl)
theorem dX3_looksBack_10 : decode cX3_looksBack 10 = .ok (.iload_n 1, 1) := dk_27 (dk_at dksX3_looksBack_0 10 rfl rfl)
theorem dX3_looksBack_11 : decode cX3_looksBack 11 = .ok (.aload_n 0, 1) := dk_42 (dk_at dksX3_looksBack_0 11 rfl rfl)
theorem dX3_looksBack_12 : decode cX3_looksBack 12 = .ok (.getfield 27, 3) := dk_180 0 27 (dk_at dksX3_looksBack_0 12 rfl rfl)
theorem dX3_looksBack_15 : decode cX3_looksBack 15 = .ok (.idiv, 1) := dk_108 (dk_at dksX3_looksBack_0 15 rfl rfl)
theorem dX3_looksBack_16 : decode cX3_looksBack 16 = .ok (.iconst 2, 1) := dk_5 (dk_at dksX3_looksBack_0 16 rfl rfl)
theorem dX3_looksBack_17 : decode cX3_looksBack 17 = .ok (.if_icmp .ne 7, 3) := dk_160 0 7 (dk_at dksX3_looksBack_0 17 rfl rfl)
theorem dX3_looksBack_20 : decode cX3_looksBack 20 = .ok (.iconst 1, 1) := dk_4 (dk_at dksX3_looksBack_0 20 rfl rfl)
theorem dX3_looksBack_21 : decode cX3_looksBack 21 = .ok (.goto 4, 3) := dk_167 0 4 (dk_at dksX3_looksBack_0 21 rfl rfl)
theorem dX3_looksBack_24 : decode cX3_looksBack 24 = .ok (.iconst 0, 1) := dk_3 (dk_at dksX3_looksBack_1 0 rfl rfl)
theorem dX3_looksBack_25 : decode cX3_looksBack 25 = .ok (.ireturn, 1) := dk_172 (dk_at dksX3_looksBack_1 1 rfl rfl)
abbrev cX3_tell : ByteArray := prog_8_method_12_code
def yX3_tell : MethodName := ⟨RX3, "tell", "(IIZ)I"⟩
def dkwX3_tell_1 : List UInt8 := [130, 126, 29, 153, 0, 9, 4, 27, 120, 167, 0, 4, 3, 128, 181, 0, 34, 21, 4, 172]
abbrev dktX3_tell_1 : List UInt8 := dkwX3_tell_1 ++ []
def dkwX3_tell_0 : List UInt8 := [42, 180, 0, 9, 27, 46, 54, 4, 42, 180, 0, 9, 27, 28, 79, 42, 42, 180, 0, 34, 4, 27, 120, 2]
abbrev dktX3_tell_0 : List UInt8 := dkwX3_tell_0 ++ dktX3_tell_1
theorem dksX3_tell_0 : cX3_tell.data.toList.drop 0 = dktX3_tell_0 := by decide +kernel
theorem dksX3_tell_1 : cX3_tell.data.toList.drop 24 = dktX3_tell_1 := dk_seg dksX3_tell_0 24 rfl rfl
theorem dX3_tell_0 : decode cX3_tell 0 = .ok (.aload_n 0, 1) := dk_42 (dk_at dksX3_tell_0 0 rfl rfl)
theorem dX3_tell_1 : decode cX3_tell 1 = .ok (.getfield 9, 3) := dk_180 0 9 (dk_at dksX3_tell_0 1 rfl rfl)
theorem dX3_tell_4 : decode cX3_tell 4 = .ok (.iload_n 1, 1) := dk_27 (dk_at dksX3_tell_0 4 rfl rfl)
theorem dX3_tell_5 : decode cX3_tell 5 = .ok (.iaload, 1) := dk_46 (dk_at dksX3_tell_0 5 rfl rfl)
theorem dX3_tell_6 : decode cX3_tell 6 = .ok (.istore 4, 2) := dk_54 4 (dk_at dksX3_tell_0 6 rfl rfl)
theorem dX3_tell_8 : decode cX3_tell 8 = .ok (.aload_n 0, 1) := dk_42 (dk_at dksX3_tell_0 8 rfl rfl)
theorem dX3_tell_9 : decode cX3_tell 9 = .ok (.getfield 9, 3) := dk_180 0 9 (dk_at dksX3_tell_0 9 rfl rfl)
theorem dX3_tell_12 : decode cX3_tell 12 = .ok (.iload_n 1, 1) := dk_27 (dk_at dksX3_tell_0 12 rfl rfl)
theorem dX3_tell_13 : decode cX3_tell 13 = .ok (.iload_n 2, 1) := dk_28 (dk_at dksX3_tell_0 13 rfl rfl)
theorem dX3_tell_14 : decode cX3_tell 14 = .ok (.iastore, 1) := dk_79 (dk_at dksX3_tell_0 14 rfl rfl)
theorem dX3_tell_15 : decode cX3_tell 15 = .ok (.aload_n 0, 1) := dk_42 (dk_at dksX3_tell_0 15 rfl rfl)
theorem dX3_tell_16 : decode cX3_tell 16 = .ok (.aload_n 0, 1) := dk_42 (dk_at dksX3_tell_0 16 rfl rfl)
theorem dX3_tell_17 : decode cX3_tell 17 = .ok (.getfield 34, 3) := dk_180 0 34 (dk_at dksX3_tell_0 17 rfl rfl)
theorem dX3_tell_20 : decode cX3_tell 20 = .ok (.iconst 1, 1) := dk_4 (dk_at dksX3_tell_0 20 rfl rfl)
theorem dX3_tell_21 : decode cX3_tell 21 = .ok (.iload_n 1, 1) := dk_27 (dk_at dksX3_tell_0 21 rfl rfl)
theorem dX3_tell_22 : decode cX3_tell 22 = .ok (.ishl, 1) := dk_120 (dk_at dksX3_tell_0 22 rfl rfl)
theorem dX3_tell_23 : decode cX3_tell 23 = .ok (.iconst (-1), 1) := dk_2 (dk_at dksX3_tell_0 23 rfl rfl)
theorem dX3_tell_24 : decode cX3_tell 24 = .ok (.ixor, 1) := dk_130 (dk_at dksX3_tell_1 0 rfl rfl)
theorem dX3_tell_25 : decode cX3_tell 25 = .ok (.iand, 1) := dk_126 (dk_at dksX3_tell_1 1 rfl rfl)
theorem dX3_tell_26 : decode cX3_tell 26 = .ok (.iload_n 3, 1) := dk_29 (dk_at dksX3_tell_1 2 rfl rfl)
theorem dX3_tell_27 : decode cX3_tell 27 = .ok (.ifCond .eq 9, 3) := dk_153 0 9 (dk_at dksX3_tell_1 3 rfl rfl)
theorem dX3_tell_30 : decode cX3_tell 30 = .ok (.iconst 1, 1) := dk_4 (dk_at dksX3_tell_1 6 rfl rfl)
theorem dX3_tell_31 : decode cX3_tell 31 = .ok (.iload_n 1, 1) := dk_27 (dk_at dksX3_tell_1 7 rfl rfl)
theorem dX3_tell_32 : decode cX3_tell 32 = .ok (.ishl, 1) := dk_120 (dk_at dksX3_tell_1 8 rfl rfl)
theorem dX3_tell_33 : decode cX3_tell 33 = .ok (.goto 4, 3) := dk_167 0 4 (dk_at dksX3_tell_1 9 rfl rfl)
theorem dX3_tell_36 : decode cX3_tell 36 = .ok (.iconst 0, 1) := dk_3 (dk_at dksX3_tell_1 12 rfl rfl)
theorem dX3_tell_37 : decode cX3_tell 37 = .ok (.ior, 1) := dk_128 (dk_at dksX3_tell_1 13 rfl rfl)
theorem dX3_tell_38 : decode cX3_tell 38 = .ok (.putfield 34, 3) := dk_181 0 34 (dk_at dksX3_tell_1 14 rfl rfl)
theorem dX3_tell_41 : decode cX3_tell 41 = .ok (.iload 4, 2) := dk_21 4 (dk_at dksX3_tell_1 17 rfl rfl)
theorem dX3_tell_43 : decode cX3_tell 43 = .ok (.ireturn, 1) := dk_172 (dk_at dksX3_tell_1 19 rfl rfl)
abbrev cX3_told : ByteArray := prog_8_method_11_code
def yX3_told : MethodName := ⟨RX3, "told", "()I"⟩
def dkwX3_told_1 : List UInt8 := [167, 0, 4, 4, 96, 60, 132, 2, 1, 167, 255, 227, 27, 172]
abbrev dktX3_told_1 : List UInt8 := dkwX3_told_1 ++ []
def dkwX3_told_0 : List UInt8 := [3, 60, 3, 61, 28, 42, 182, 0, 68, 162, 0, 27, 27, 42, 180, 0, 9, 28, 46, 2, 160, 0, 7, 3]
abbrev dktX3_told_0 : List UInt8 := dkwX3_told_0 ++ dktX3_told_1
theorem dksX3_told_0 : cX3_told.data.toList.drop 0 = dktX3_told_0 := by decide +kernel
theorem dksX3_told_1 : cX3_told.data.toList.drop 24 = dktX3_told_1 := dk_seg dksX3_told_0 24 rfl rfl
theorem dX3_told_0 : decode cX3_told 0 = .ok (.iconst 0, 1) := dk_3 (dk_at dksX3_told_0 0 rfl rfl)
theorem dX3_told_1 : decode cX3_told 1 = .ok (.istore_n 1, 1) := dk_60 (dk_at dksX3_told_0 1 rfl rfl)
theorem dX3_told_2 : decode cX3_told 2 = .ok (.iconst 0, 1) := dk_3 (dk_at dksX3_told_0 2 rfl rfl)
theorem dX3_told_3 : decode cX3_told 3 = .ok (.istore_n 2, 1) := dk_61 (dk_at dksX3_told_0 3 rfl rfl)
theorem dX3_told_4 : decode cX3_told 4 = .ok (.iload_n 2, 1) := dk_28 (dk_at dksX3_told_0 4 rfl rfl)
theorem dX3_told_5 : decode cX3_told 5 = .ok (.aload_n 0, 1) := dk_42 (dk_at dksX3_told_0 5 rfl rfl)
theorem dX3_told_6 : decode cX3_told 6 = .ok (.invokevirtual 68, 3) := dk_182 0 68 (dk_at dksX3_told_0 6 rfl rfl)
theorem dX3_told_9 : decode cX3_told 9 = .ok (.if_icmp .ge 27, 3) := dk_162 0 27 (dk_at dksX3_told_0 9 rfl rfl)
theorem dX3_told_12 : decode cX3_told 12 = .ok (.iload_n 1, 1) := dk_27 (dk_at dksX3_told_0 12 rfl rfl)
theorem dX3_told_13 : decode cX3_told 13 = .ok (.aload_n 0, 1) := dk_42 (dk_at dksX3_told_0 13 rfl rfl)
theorem dX3_told_14 : decode cX3_told 14 = .ok (.getfield 9, 3) := dk_180 0 9 (dk_at dksX3_told_0 14 rfl rfl)
theorem dX3_told_17 : decode cX3_told 17 = .ok (.iload_n 2, 1) := dk_28 (dk_at dksX3_told_0 17 rfl rfl)
theorem dX3_told_18 : decode cX3_told 18 = .ok (.iaload, 1) := dk_46 (dk_at dksX3_told_0 18 rfl rfl)
theorem dX3_told_19 : decode cX3_told 19 = .ok (.iconst (-1), 1) := dk_2 (dk_at dksX3_told_0 19 rfl rfl)
theorem dX3_told_20 : decode cX3_told 20 = .ok (.if_icmp .ne 7, 3) := dk_160 0 7 (dk_at dksX3_told_0 20 rfl rfl)
theorem dX3_told_23 : decode cX3_told 23 = .ok (.iconst 0, 1) := dk_3 (dk_at dksX3_told_0 23 rfl rfl)
theorem dX3_told_24 : decode cX3_told 24 = .ok (.goto 4, 3) := dk_167 0 4 (dk_at dksX3_told_1 0 rfl rfl)
theorem dX3_told_27 : decode cX3_told 27 = .ok (.iconst 1, 1) := dk_4 (dk_at dksX3_told_1 3 rfl rfl)
theorem dX3_told_28 : decode cX3_told 28 = .ok (.iadd, 1) := dk_96 (dk_at dksX3_told_1 4 rfl rfl)
theorem dX3_told_29 : decode cX3_told 29 = .ok (.istore_n 1, 1) := dk_60 (dk_at dksX3_told_1 5 rfl rfl)
theorem dX3_told_30 : decode cX3_told 30 = .ok (.iinc 2 1, 3) := dk_132 2 1 (dk_at dksX3_told_1 6 rfl rfl)
theorem dX3_told_33 : decode cX3_told 33 = .ok (.goto (-29), 3) := dk_167 255 227 (dk_at dksX3_told_1 9 rfl rfl)
theorem dX3_told_36 : decode cX3_told 36 = .ok (.iload_n 1, 1) := dk_27 (dk_at dksX3_told_1 12 rfl rfl)
theorem dX3_told_37 : decode cX3_told 37 = .ok (.ireturn, 1) := dk_172 (dk_at dksX3_told_1 13 rfl rfl)
abbrev cX3_mirrored : ByteArray := prog_8_method_18_code
def yX3_mirrored : MethodName := ⟨RX3, "mirrored", "(I)I"⟩
def dkwX3_mirrored_0 : List UInt8 := [27, 42, 180, 0, 27, 112, 42, 180, 0, 27, 104, 27, 42, 180, 0, 27, 108, 96, 172]
abbrev dktX3_mirrored_0 : List UInt8 := dkwX3_mirrored_0 ++ []
theorem dksX3_mirrored_0 : cX3_mirrored.data.toList.drop 0 = dktX3_mirrored_0 := by decide +kernel
theorem dX3_mirrored_0 : decode cX3_mirrored 0 = .ok (.iload_n 1, 1) := dk_27 (dk_at dksX3_mirrored_0 0 rfl rfl)
theorem dX3_mirrored_1 : decode cX3_mirrored 1 = .ok (.aload_n 0, 1) := dk_42 (dk_at dksX3_mirrored_0 1 rfl rfl)
theorem dX3_mirrored_2 : decode cX3_mirrored 2 = .ok (.getfield 27, 3) := dk_180 0 27 (dk_at dksX3_mirrored_0 2 rfl rfl)
theorem dX3_mirrored_5 : decode cX3_mirrored 5 = .ok (.irem, 1) := dk_112 (dk_at dksX3_mirrored_0 5 rfl rfl)
theorem dX3_mirrored_6 : decode cX3_mirrored 6 = .ok (.aload_n 0, 1) := dk_42 (dk_at dksX3_mirrored_0 6 rfl rfl)
theorem dX3_mirrored_7 : decode cX3_mirrored 7 = .ok (.getfield 27, 3) := dk_180 0 27 (dk_at dksX3_mirrored_0 7 rfl rfl)
theorem dX3_mirrored_10 : decode cX3_mirrored 10 = .ok (.imul, 1) := dk_104 (dk_at dksX3_mirrored_0 10 rfl rfl)
theorem dX3_mirrored_11 : decode cX3_mirrored 11 = .ok (.iload_n 1, 1) := dk_27 (dk_at dksX3_mirrored_0 11 rfl rfl)
theorem dX3_mirrored_12 : decode cX3_mirrored 12 = .ok (.aload_n 0, 1) := dk_42 (dk_at dksX3_mirrored_0 12 rfl rfl)
theorem dX3_mirrored_13 : decode cX3_mirrored 13 = .ok (.getfield 27, 3) := dk_180 0 27 (dk_at dksX3_mirrored_0 13 rfl rfl)
theorem dX3_mirrored_16 : decode cX3_mirrored 16 = .ok (.idiv, 1) := dk_108 (dk_at dksX3_mirrored_0 16 rfl rfl)
theorem dX3_mirrored_17 : decode cX3_mirrored 17 = .ok (.iadd, 1) := dk_96 (dk_at dksX3_mirrored_0 17 rfl rfl)
theorem dX3_mirrored_18 : decode cX3_mirrored 18 = .ok (.ireturn, 1) := dk_172 (dk_at dksX3_mirrored_0 18 rfl rfl)
abbrev cX3_mirroredEdge : ByteArray := prog_8_method_19_code
def yX3_mirroredEdge : MethodName := ⟨RX3, "mirroredEdge", "(I)I"⟩
def dkwX3_mirroredEdge_0 : List UInt8 := [6, 27, 42, 180, 0, 27, 108, 100, 42, 180, 0, 27, 104, 27, 42, 180, 0, 27, 112, 96, 172]
abbrev dktX3_mirroredEdge_0 : List UInt8 := dkwX3_mirroredEdge_0 ++ []
theorem dksX3_mirroredEdge_0 : cX3_mirroredEdge.data.toList.drop 0 = dktX3_mirroredEdge_0 := by decide +kernel
theorem dX3_mirroredEdge_0 : decode cX3_mirroredEdge 0 = .ok (.iconst 3, 1) := dk_6 (dk_at dksX3_mirroredEdge_0 0 rfl rfl)
theorem dX3_mirroredEdge_1 : decode cX3_mirroredEdge 1 = .ok (.iload_n 1, 1) := dk_27 (dk_at dksX3_mirroredEdge_0 1 rfl rfl)
theorem dX3_mirroredEdge_2 : decode cX3_mirroredEdge 2 = .ok (.aload_n 0, 1) := dk_42 (dk_at dksX3_mirroredEdge_0 2 rfl rfl)
theorem dX3_mirroredEdge_3 : decode cX3_mirroredEdge 3 = .ok (.getfield 27, 3) := dk_180 0 27 (dk_at dksX3_mirroredEdge_0 3 rfl rfl)
theorem dX3_mirroredEdge_6 : decode cX3_mirroredEdge 6 = .ok (.idiv, 1) := dk_108 (dk_at dksX3_mirroredEdge_0 6 rfl rfl)
theorem dX3_mirroredEdge_7 : decode cX3_mirroredEdge 7 = .ok (.isub, 1) := dk_100 (dk_at dksX3_mirroredEdge_0 7 rfl rfl)
theorem dX3_mirroredEdge_8 : decode cX3_mirroredEdge 8 = .ok (.aload_n 0, 1) := dk_42 (dk_at dksX3_mirroredEdge_0 8 rfl rfl)
theorem dX3_mirroredEdge_9 : decode cX3_mirroredEdge 9 = .ok (.getfield 27, 3) := dk_180 0 27 (dk_at dksX3_mirroredEdge_0 9 rfl rfl)
theorem dX3_mirroredEdge_12 : decode cX3_mirroredEdge 12 = .ok (.imul, 1) := dk_104 (dk_at dksX3_mirroredEdge_0 12 rfl rfl)
theorem dX3_mirroredEdge_13 : decode cX3_mirroredEdge 13 = .ok (.iload_n 1, 1) := dk_27 (dk_at dksX3_mirroredEdge_0 13 rfl rfl)
theorem dX3_mirroredEdge_14 : decode cX3_mirroredEdge 14 = .ok (.aload_n 0, 1) := dk_42 (dk_at dksX3_mirroredEdge_0 14 rfl rfl)
theorem dX3_mirroredEdge_15 : decode cX3_mirroredEdge 15 = .ok (.getfield 27, 3) := dk_180 0 27 (dk_at dksX3_mirroredEdge_0 15 rfl rfl)
theorem dX3_mirroredEdge_18 : decode cX3_mirroredEdge 18 = .ok (.irem, 1) := dk_112 (dk_at dksX3_mirroredEdge_0 18 rfl rfl)
theorem dX3_mirroredEdge_19 : decode cX3_mirroredEdge 19 = .ok (.iadd, 1) := dk_96 (dk_at dksX3_mirroredEdge_0 19 rfl rfl)
theorem dX3_mirroredEdge_20 : decode cX3_mirroredEdge 20 = .ok (.ireturn, 1) := dk_172 (dk_at dksX3_mirroredEdge_0 20 rfl rfl)
abbrev cX3_isTrue : ByteArray := prog_8_method_17_code
def yX3_isTrue : MethodName := ⟨RX3, "isTrue", "(I[I)Z"⟩
def dkwX3_isTrue_1 : List UInt8 := [42, 42, 27, 4, 182, 0, 79, 44, 182, 0, 83, 153, 0, 7, 4, 167, 0, 4, 3, 172]
abbrev dktX3_isTrue_1 : List UInt8 := dkwX3_isTrue_1 ++ []
def dkwX3_isTrue_0 : List UInt8 := [27, 5, 42, 180, 0, 27, 104, 162, 0, 31, 42, 42, 27, 3, 182, 0, 79, 44, 182, 0, 83, 153, 0, 21]
abbrev dktX3_isTrue_0 : List UInt8 := dkwX3_isTrue_0 ++ dktX3_isTrue_1
theorem dksX3_isTrue_0 : cX3_isTrue.data.toList.drop 0 = dktX3_isTrue_0 := by decide +kernel
theorem dksX3_isTrue_1 : cX3_isTrue.data.toList.drop 24 = dktX3_isTrue_1 := dk_seg dksX3_isTrue_0 24 rfl rfl
theorem dX3_isTrue_0 : decode cX3_isTrue 0 = .ok (.iload_n 1, 1) := dk_27 (dk_at dksX3_isTrue_0 0 rfl rfl)
theorem dX3_isTrue_1 : decode cX3_isTrue 1 = .ok (.iconst 2, 1) := dk_5 (dk_at dksX3_isTrue_0 1 rfl rfl)
theorem dX3_isTrue_2 : decode cX3_isTrue 2 = .ok (.aload_n 0, 1) := dk_42 (dk_at dksX3_isTrue_0 2 rfl rfl)
theorem dX3_isTrue_3 : decode cX3_isTrue 3 = .ok (.getfield 27, 3) := dk_180 0 27 (dk_at dksX3_isTrue_0 3 rfl rfl)
theorem dX3_isTrue_6 : decode cX3_isTrue 6 = .ok (.imul, 1) := dk_104 (dk_at dksX3_isTrue_0 6 rfl rfl)
theorem dX3_isTrue_7 : decode cX3_isTrue 7 = .ok (.if_icmp .ge 31, 3) := dk_162 0 31 (dk_at dksX3_isTrue_0 7 rfl rfl)
theorem dX3_isTrue_10 : decode cX3_isTrue 10 = .ok (.aload_n 0, 1) := dk_42 (dk_at dksX3_isTrue_0 10 rfl rfl)
theorem dX3_isTrue_11 : decode cX3_isTrue 11 = .ok (.aload_n 0, 1) := dk_42 (dk_at dksX3_isTrue_0 11 rfl rfl)
theorem dX3_isTrue_12 : decode cX3_isTrue 12 = .ok (.iload_n 1, 1) := dk_27 (dk_at dksX3_isTrue_0 12 rfl rfl)
theorem dX3_isTrue_13 : decode cX3_isTrue 13 = .ok (.iconst 0, 1) := dk_3 (dk_at dksX3_isTrue_0 13 rfl rfl)
theorem dX3_isTrue_14 : decode cX3_isTrue 14 = .ok (.invokevirtual 79, 3) := dk_182 0 79 (dk_at dksX3_isTrue_0 14 rfl rfl)
theorem dX3_isTrue_17 : decode cX3_isTrue 17 = .ok (.aload_n 2, 1) := dk_44 (dk_at dksX3_isTrue_0 17 rfl rfl)
theorem dX3_isTrue_18 : decode cX3_isTrue 18 = .ok (.invokevirtual 83, 3) := dk_182 0 83 (dk_at dksX3_isTrue_0 18 rfl rfl)
theorem dX3_isTrue_21 : decode cX3_isTrue 21 = .ok (.ifCond .eq 21, 3) := dk_153 0 21 (dk_at dksX3_isTrue_0 21 rfl rfl)
theorem dX3_isTrue_24 : decode cX3_isTrue 24 = .ok (.aload_n 0, 1) := dk_42 (dk_at dksX3_isTrue_1 0 rfl rfl)
theorem dX3_isTrue_25 : decode cX3_isTrue 25 = .ok (.aload_n 0, 1) := dk_42 (dk_at dksX3_isTrue_1 1 rfl rfl)
theorem dX3_isTrue_26 : decode cX3_isTrue 26 = .ok (.iload_n 1, 1) := dk_27 (dk_at dksX3_isTrue_1 2 rfl rfl)
theorem dX3_isTrue_27 : decode cX3_isTrue 27 = .ok (.iconst 1, 1) := dk_4 (dk_at dksX3_isTrue_1 3 rfl rfl)
theorem dX3_isTrue_28 : decode cX3_isTrue 28 = .ok (.invokevirtual 79, 3) := dk_182 0 79 (dk_at dksX3_isTrue_1 4 rfl rfl)
theorem dX3_isTrue_31 : decode cX3_isTrue 31 = .ok (.aload_n 2, 1) := dk_44 (dk_at dksX3_isTrue_1 7 rfl rfl)
theorem dX3_isTrue_32 : decode cX3_isTrue 32 = .ok (.invokevirtual 83, 3) := dk_182 0 83 (dk_at dksX3_isTrue_1 8 rfl rfl)
theorem dX3_isTrue_35 : decode cX3_isTrue 35 = .ok (.ifCond .eq 7, 3) := dk_153 0 7 (dk_at dksX3_isTrue_1 11 rfl rfl)
theorem dX3_isTrue_38 : decode cX3_isTrue 38 = .ok (.iconst 1, 1) := dk_4 (dk_at dksX3_isTrue_1 14 rfl rfl)
theorem dX3_isTrue_39 : decode cX3_isTrue 39 = .ok (.goto 4, 3) := dk_167 0 4 (dk_at dksX3_isTrue_1 15 rfl rfl)
theorem dX3_isTrue_42 : decode cX3_isTrue 42 = .ok (.iconst 0, 1) := dk_3 (dk_at dksX3_isTrue_1 18 rfl rfl)
theorem dX3_isTrue_43 : decode cX3_isTrue 43 = .ok (.ireturn, 1) := dk_172 (dk_at dksX3_isTrue_1 19 rfl rfl)
abbrev cX3_edgeOf : ByteArray := prog_8_method_15_code
def yX3_edgeOf : MethodName := ⟨RX3, "edgeOf", "(IZ)I"⟩
def dkwX3_edgeOf_2 : List UInt8 := [167, 0, 4, 3, 96, 172]
abbrev dktX3_edgeOf_2 : List UInt8 := dkwX3_edgeOf_2 ++ []
def dkwX3_edgeOf_1 : List UInt8 := [180, 0, 27, 104, 96, 172, 27, 42, 180, 0, 27, 100, 28, 153, 0, 12, 5, 42, 180, 0, 27, 104]
abbrev dktX3_edgeOf_1 : List UInt8 := dkwX3_edgeOf_1 ++ dktX3_edgeOf_2
def dkwX3_edgeOf_0 : List UInt8 := [27, 42, 180, 0, 27, 162, 0, 23, 27, 28, 153, 0, 10, 42, 180, 0, 27, 167, 0, 9, 6, 42]
abbrev dktX3_edgeOf_0 : List UInt8 := dkwX3_edgeOf_0 ++ dktX3_edgeOf_1
theorem dksX3_edgeOf_0 : cX3_edgeOf.data.toList.drop 0 = dktX3_edgeOf_0 := by decide +kernel
theorem dksX3_edgeOf_1 : cX3_edgeOf.data.toList.drop 22 = dktX3_edgeOf_1 := dk_seg dksX3_edgeOf_0 22 rfl rfl
theorem dksX3_edgeOf_2 : cX3_edgeOf.data.toList.drop 44 = dktX3_edgeOf_2 := dk_seg dksX3_edgeOf_1 22 rfl rfl
theorem dX3_edgeOf_0 : decode cX3_edgeOf 0 = .ok (.iload_n 1, 1) := dk_27 (dk_at dksX3_edgeOf_0 0 rfl rfl)
theorem dX3_edgeOf_1 : decode cX3_edgeOf 1 = .ok (.aload_n 0, 1) := dk_42 (dk_at dksX3_edgeOf_0 1 rfl rfl)
theorem dX3_edgeOf_2 : decode cX3_edgeOf 2 = .ok (.getfield 27, 3) := dk_180 0 27 (dk_at dksX3_edgeOf_0 2 rfl rfl)
theorem dX3_edgeOf_5 : decode cX3_edgeOf 5 = .ok (.if_icmp .ge 23, 3) := dk_162 0 23 (dk_at dksX3_edgeOf_0 5 rfl rfl)
theorem dX3_edgeOf_8 : decode cX3_edgeOf 8 = .ok (.iload_n 1, 1) := dk_27 (dk_at dksX3_edgeOf_0 8 rfl rfl)
theorem dX3_edgeOf_9 : decode cX3_edgeOf 9 = .ok (.iload_n 2, 1) := dk_28 (dk_at dksX3_edgeOf_0 9 rfl rfl)
theorem dX3_edgeOf_10 : decode cX3_edgeOf 10 = .ok (.ifCond .eq 10, 3) := dk_153 0 10 (dk_at dksX3_edgeOf_0 10 rfl rfl)
theorem dX3_edgeOf_13 : decode cX3_edgeOf 13 = .ok (.aload_n 0, 1) := dk_42 (dk_at dksX3_edgeOf_0 13 rfl rfl)
theorem dX3_edgeOf_14 : decode cX3_edgeOf 14 = .ok (.getfield 27, 3) := dk_180 0 27 (dk_at dksX3_edgeOf_0 14 rfl rfl)
theorem dX3_edgeOf_17 : decode cX3_edgeOf 17 = .ok (.goto 9, 3) := dk_167 0 9 (dk_at dksX3_edgeOf_0 17 rfl rfl)
theorem dX3_edgeOf_20 : decode cX3_edgeOf 20 = .ok (.iconst 3, 1) := dk_6 (dk_at dksX3_edgeOf_0 20 rfl rfl)
theorem dX3_edgeOf_21 : decode cX3_edgeOf 21 = .ok (.aload_n 0, 1) := dk_42 (dk_at dksX3_edgeOf_0 21 rfl rfl)
theorem dX3_edgeOf_22 : decode cX3_edgeOf 22 = .ok (.getfield 27, 3) := dk_180 0 27 (dk_at dksX3_edgeOf_1 0 rfl rfl)
theorem dX3_edgeOf_25 : decode cX3_edgeOf 25 = .ok (.imul, 1) := dk_104 (dk_at dksX3_edgeOf_1 3 rfl rfl)
theorem dX3_edgeOf_26 : decode cX3_edgeOf 26 = .ok (.iadd, 1) := dk_96 (dk_at dksX3_edgeOf_1 4 rfl rfl)
theorem dX3_edgeOf_27 : decode cX3_edgeOf 27 = .ok (.ireturn, 1) := dk_172 (dk_at dksX3_edgeOf_1 5 rfl rfl)
theorem dX3_edgeOf_28 : decode cX3_edgeOf 28 = .ok (.iload_n 1, 1) := dk_27 (dk_at dksX3_edgeOf_1 6 rfl rfl)
theorem dX3_edgeOf_29 : decode cX3_edgeOf 29 = .ok (.aload_n 0, 1) := dk_42 (dk_at dksX3_edgeOf_1 7 rfl rfl)
theorem dX3_edgeOf_30 : decode cX3_edgeOf 30 = .ok (.getfield 27, 3) := dk_180 0 27 (dk_at dksX3_edgeOf_1 8 rfl rfl)
theorem dX3_edgeOf_33 : decode cX3_edgeOf 33 = .ok (.isub, 1) := dk_100 (dk_at dksX3_edgeOf_1 11 rfl rfl)
theorem dX3_edgeOf_34 : decode cX3_edgeOf 34 = .ok (.iload_n 2, 1) := dk_28 (dk_at dksX3_edgeOf_1 12 rfl rfl)
theorem dX3_edgeOf_35 : decode cX3_edgeOf 35 = .ok (.ifCond .eq 12, 3) := dk_153 0 12 (dk_at dksX3_edgeOf_1 13 rfl rfl)
theorem dX3_edgeOf_38 : decode cX3_edgeOf 38 = .ok (.iconst 2, 1) := dk_5 (dk_at dksX3_edgeOf_1 16 rfl rfl)
theorem dX3_edgeOf_39 : decode cX3_edgeOf 39 = .ok (.aload_n 0, 1) := dk_42 (dk_at dksX3_edgeOf_1 17 rfl rfl)
theorem dX3_edgeOf_40 : decode cX3_edgeOf 40 = .ok (.getfield 27, 3) := dk_180 0 27 (dk_at dksX3_edgeOf_1 18 rfl rfl)
theorem dX3_edgeOf_43 : decode cX3_edgeOf 43 = .ok (.imul, 1) := dk_104 (dk_at dksX3_edgeOf_1 21 rfl rfl)
theorem dX3_edgeOf_44 : decode cX3_edgeOf 44 = .ok (.goto 4, 3) := dk_167 0 4 (dk_at dksX3_edgeOf_2 0 rfl rfl)
theorem dX3_edgeOf_47 : decode cX3_edgeOf 47 = .ok (.iconst 0, 1) := dk_3 (dk_at dksX3_edgeOf_2 3 rfl rfl)
theorem dX3_edgeOf_48 : decode cX3_edgeOf 48 = .ok (.iadd, 1) := dk_96 (dk_at dksX3_edgeOf_2 4 rfl rfl)
theorem dX3_edgeOf_49 : decode cX3_edgeOf 49 = .ok (.ireturn, 1) := dk_172 (dk_at dksX3_edgeOf_2 5 rfl rfl)
abbrev cX3_isTrueAt : ByteArray := prog_8_method_16_code
def yX3_isTrueAt : MethodName := ⟨RX3, "isTrueAt", "(I[I)Z"⟩
def dkwX3_isTrueAt_1 : List UInt8 := [42, 27, 182, 0, 71, 44, 184, 0, 75, 29, 160, 0, 7, 4, 167, 0, 4, 3, 172]
abbrev dktX3_isTrueAt_1 : List UInt8 := dkwX3_isTrueAt_1 ++ []
def dkwX3_isTrueAt_0 : List UInt8 := [42, 180, 0, 9, 27, 46, 62, 29, 2, 159, 0, 28, 42, 180, 0, 31, 42, 180, 0, 34, 27, 122, 4, 126]
abbrev dktX3_isTrueAt_0 : List UInt8 := dkwX3_isTrueAt_0 ++ dktX3_isTrueAt_1
theorem dksX3_isTrueAt_0 : cX3_isTrueAt.data.toList.drop 0 = dktX3_isTrueAt_0 := by decide +kernel
theorem dksX3_isTrueAt_1 : cX3_isTrueAt.data.toList.drop 24 = dktX3_isTrueAt_1 := dk_seg dksX3_isTrueAt_0 24 rfl rfl
theorem dX3_isTrueAt_0 : decode cX3_isTrueAt 0 = .ok (.aload_n 0, 1) := dk_42 (dk_at dksX3_isTrueAt_0 0 rfl rfl)
theorem dX3_isTrueAt_1 : decode cX3_isTrueAt 1 = .ok (.getfield 9, 3) := dk_180 0 9 (dk_at dksX3_isTrueAt_0 1 rfl rfl)
theorem dX3_isTrueAt_4 : decode cX3_isTrueAt 4 = .ok (.iload_n 1, 1) := dk_27 (dk_at dksX3_isTrueAt_0 4 rfl rfl)
theorem dX3_isTrueAt_5 : decode cX3_isTrueAt 5 = .ok (.iaload, 1) := dk_46 (dk_at dksX3_isTrueAt_0 5 rfl rfl)
theorem dX3_isTrueAt_6 : decode cX3_isTrueAt 6 = .ok (.istore_n 3, 1) := dk_62 (dk_at dksX3_isTrueAt_0 6 rfl rfl)
theorem dX3_isTrueAt_7 : decode cX3_isTrueAt 7 = .ok (.iload_n 3, 1) := dk_29 (dk_at dksX3_isTrueAt_0 7 rfl rfl)
theorem dX3_isTrueAt_8 : decode cX3_isTrueAt 8 = .ok (.iconst (-1), 1) := dk_2 (dk_at dksX3_isTrueAt_0 8 rfl rfl)
theorem dX3_isTrueAt_9 : decode cX3_isTrueAt 9 = .ok (.if_icmp .eq 28, 3) := dk_159 0 28 (dk_at dksX3_isTrueAt_0 9 rfl rfl)
theorem dX3_isTrueAt_12 : decode cX3_isTrueAt 12 = .ok (.aload_n 0, 1) := dk_42 (dk_at dksX3_isTrueAt_0 12 rfl rfl)
theorem dX3_isTrueAt_13 : decode cX3_isTrueAt 13 = .ok (.getfield 31, 3) := dk_180 0 31 (dk_at dksX3_isTrueAt_0 13 rfl rfl)
theorem dX3_isTrueAt_16 : decode cX3_isTrueAt 16 = .ok (.aload_n 0, 1) := dk_42 (dk_at dksX3_isTrueAt_0 16 rfl rfl)
theorem dX3_isTrueAt_17 : decode cX3_isTrueAt 17 = .ok (.getfield 34, 3) := dk_180 0 34 (dk_at dksX3_isTrueAt_0 17 rfl rfl)
theorem dX3_isTrueAt_20 : decode cX3_isTrueAt 20 = .ok (.iload_n 1, 1) := dk_27 (dk_at dksX3_isTrueAt_0 20 rfl rfl)
theorem dX3_isTrueAt_21 : decode cX3_isTrueAt 21 = .ok (.ishr, 1) := dk_122 (dk_at dksX3_isTrueAt_0 21 rfl rfl)
theorem dX3_isTrueAt_22 : decode cX3_isTrueAt 22 = .ok (.iconst 1, 1) := dk_4 (dk_at dksX3_isTrueAt_0 22 rfl rfl)
theorem dX3_isTrueAt_23 : decode cX3_isTrueAt 23 = .ok (.iand, 1) := dk_126 (dk_at dksX3_isTrueAt_0 23 rfl rfl)
theorem dX3_isTrueAt_24 : decode cX3_isTrueAt 24 = .ok (.aload_n 0, 1) := dk_42 (dk_at dksX3_isTrueAt_1 0 rfl rfl)
theorem dX3_isTrueAt_25 : decode cX3_isTrueAt 25 = .ok (.iload_n 1, 1) := dk_27 (dk_at dksX3_isTrueAt_1 1 rfl rfl)
theorem dX3_isTrueAt_26 : decode cX3_isTrueAt 26 = .ok (.invokevirtual 71, 3) := dk_182 0 71 (dk_at dksX3_isTrueAt_1 2 rfl rfl)
theorem dX3_isTrueAt_29 : decode cX3_isTrueAt 29 = .ok (.aload_n 2, 1) := dk_44 (dk_at dksX3_isTrueAt_1 5 rfl rfl)
theorem dX3_isTrueAt_30 : decode cX3_isTrueAt 30 = .ok (.invokestatic 75, 3) := dk_184 0 75 (dk_at dksX3_isTrueAt_1 6 rfl rfl)
theorem dX3_isTrueAt_33 : decode cX3_isTrueAt 33 = .ok (.iload_n 3, 1) := dk_29 (dk_at dksX3_isTrueAt_1 9 rfl rfl)
theorem dX3_isTrueAt_34 : decode cX3_isTrueAt 34 = .ok (.if_icmp .ne 7, 3) := dk_160 0 7 (dk_at dksX3_isTrueAt_1 10 rfl rfl)
theorem dX3_isTrueAt_37 : decode cX3_isTrueAt 37 = .ok (.iconst 1, 1) := dk_4 (dk_at dksX3_isTrueAt_1 13 rfl rfl)
theorem dX3_isTrueAt_38 : decode cX3_isTrueAt 38 = .ok (.goto 4, 3) := dk_167 0 4 (dk_at dksX3_isTrueAt_1 14 rfl rfl)
theorem dX3_isTrueAt_41 : decode cX3_isTrueAt 41 = .ok (.iconst 0, 1) := dk_3 (dk_at dksX3_isTrueAt_1 17 rfl rfl)
theorem dX3_isTrueAt_42 : decode cX3_isTrueAt 42 = .ok (.ireturn, 1) := dk_172 (dk_at dksX3_isTrueAt_1 18 rfl rfl)
abbrev cX3_gaps : ByteArray := prog_8_method_9_code
def yX3_gaps : MethodName := ⟨RX3, "gaps", "()I"⟩
def dkwX3_gaps_0 : List UInt8 := [42, 180, 0, 27, 42, 180, 0, 31, 100, 172]
abbrev dktX3_gaps_0 : List UInt8 := dkwX3_gaps_0 ++ []
theorem dksX3_gaps_0 : cX3_gaps.data.toList.drop 0 = dktX3_gaps_0 := by decide +kernel
theorem dX3_gaps_0 : decode cX3_gaps 0 = .ok (.aload_n 0, 1) := dk_42 (dk_at dksX3_gaps_0 0 rfl rfl)
theorem dX3_gaps_1 : decode cX3_gaps 1 = .ok (.getfield 27, 3) := dk_180 0 27 (dk_at dksX3_gaps_0 1 rfl rfl)
theorem dX3_gaps_4 : decode cX3_gaps 4 = .ok (.aload_n 0, 1) := dk_42 (dk_at dksX3_gaps_0 4 rfl rfl)
theorem dX3_gaps_5 : decode cX3_gaps 5 = .ok (.getfield 31, 3) := dk_180 0 31 (dk_at dksX3_gaps_0 5 rfl rfl)
theorem dX3_gaps_8 : decode cX3_gaps 8 = .ok (.isub, 1) := dk_100 (dk_at dksX3_gaps_0 8 rfl rfl)
theorem dX3_gaps_9 : decode cX3_gaps 9 = .ok (.ireturn, 1) := dk_172 (dk_at dksX3_gaps_0 9 rfl rfl)
abbrev cX3_exchange : ByteArray := prog_8_method_21_code
def yX3_exchange : MethodName := ⟨RX3, "exchange", "(II)I"⟩
def dkwX3_exchange_3 : List UInt8 := [27, 28, 182, 0, 87, 79, 132, 4, 1, 167, 255, 183, 29, 172]
abbrev dktX3_exchange_3 : List UInt8 := dkwX3_exchange_3 ++ []
def dkwX3_exchange_2 : List UInt8 := [160, 0, 7, 4, 167, 0, 4, 3, 96, 62, 42, 180, 0, 9, 21, 4, 42, 42, 180, 0, 9, 21, 4, 46]
abbrev dktX3_exchange_2 : List UInt8 := dkwX3_exchange_2 ++ dktX3_exchange_3
def dkwX3_exchange_1 : List UInt8 := [159, 0, 29, 42, 180, 0, 9, 21, 4, 46, 27, 159, 0, 14, 42, 180, 0, 9, 21, 4, 46, 28]
abbrev dktX3_exchange_1 : List UInt8 := dkwX3_exchange_1 ++ dktX3_exchange_2
def dkwX3_exchange_0 : List UInt8 := [3, 62, 3, 54, 4, 21, 4, 42, 182, 0, 68, 162, 0, 70, 29, 42, 180, 0, 9, 21, 4, 46, 2]
abbrev dktX3_exchange_0 : List UInt8 := dkwX3_exchange_0 ++ dktX3_exchange_1
theorem dksX3_exchange_0 : cX3_exchange.data.toList.drop 0 = dktX3_exchange_0 := by decide +kernel
theorem dksX3_exchange_1 : cX3_exchange.data.toList.drop 23 = dktX3_exchange_1 := dk_seg dksX3_exchange_0 23 rfl rfl
theorem dksX3_exchange_2 : cX3_exchange.data.toList.drop 45 = dktX3_exchange_2 := dk_seg dksX3_exchange_1 22 rfl rfl
theorem dksX3_exchange_3 : cX3_exchange.data.toList.drop 69 = dktX3_exchange_3 := dk_seg dksX3_exchange_2 24 rfl rfl
theorem dX3_exchange_0 : decode cX3_exchange 0 = .ok (.iconst 0, 1) := dk_3 (dk_at dksX3_exchange_0 0 rfl rfl)
theorem dX3_exchange_1 : decode cX3_exchange 1 = .ok (.istore_n 3, 1) := dk_62 (dk_at dksX3_exchange_0 1 rfl rfl)
theorem dX3_exchange_2 : decode cX3_exchange 2 = .ok (.iconst 0, 1) := dk_3 (dk_at dksX3_exchange_0 2 rfl rfl)
theorem dX3_exchange_3 : decode cX3_exchange 3 = .ok (.istore 4, 2) := dk_54 4 (dk_at dksX3_exchange_0 3 rfl rfl)
theorem dX3_exchange_5 : decode cX3_exchange 5 = .ok (.iload 4, 2) := dk_21 4 (dk_at dksX3_exchange_0 5 rfl rfl)
theorem dX3_exchange_7 : decode cX3_exchange 7 = .ok (.aload_n 0, 1) := dk_42 (dk_at dksX3_exchange_0 7 rfl rfl)
theorem dX3_exchange_8 : decode cX3_exchange 8 = .ok (.invokevirtual 68, 3) := dk_182 0 68 (dk_at dksX3_exchange_0 8 rfl rfl)
theorem dX3_exchange_11 : decode cX3_exchange 11 = .ok (.if_icmp .ge 70, 3) := dk_162 0 70 (dk_at dksX3_exchange_0 11 rfl rfl)
theorem dX3_exchange_14 : decode cX3_exchange 14 = .ok (.iload_n 3, 1) := dk_29 (dk_at dksX3_exchange_0 14 rfl rfl)
theorem dX3_exchange_15 : decode cX3_exchange 15 = .ok (.aload_n 0, 1) := dk_42 (dk_at dksX3_exchange_0 15 rfl rfl)
theorem dX3_exchange_16 : decode cX3_exchange 16 = .ok (.getfield 9, 3) := dk_180 0 9 (dk_at dksX3_exchange_0 16 rfl rfl)
theorem dX3_exchange_19 : decode cX3_exchange 19 = .ok (.iload 4, 2) := dk_21 4 (dk_at dksX3_exchange_0 19 rfl rfl)
theorem dX3_exchange_21 : decode cX3_exchange 21 = .ok (.iaload, 1) := dk_46 (dk_at dksX3_exchange_0 21 rfl rfl)
theorem dX3_exchange_22 : decode cX3_exchange 22 = .ok (.iconst (-1), 1) := dk_2 (dk_at dksX3_exchange_0 22 rfl rfl)
theorem dX3_exchange_23 : decode cX3_exchange 23 = .ok (.if_icmp .eq 29, 3) := dk_159 0 29 (dk_at dksX3_exchange_1 0 rfl rfl)
theorem dX3_exchange_26 : decode cX3_exchange 26 = .ok (.aload_n 0, 1) := dk_42 (dk_at dksX3_exchange_1 3 rfl rfl)
theorem dX3_exchange_27 : decode cX3_exchange 27 = .ok (.getfield 9, 3) := dk_180 0 9 (dk_at dksX3_exchange_1 4 rfl rfl)
theorem dX3_exchange_30 : decode cX3_exchange 30 = .ok (.iload 4, 2) := dk_21 4 (dk_at dksX3_exchange_1 7 rfl rfl)
theorem dX3_exchange_32 : decode cX3_exchange 32 = .ok (.iaload, 1) := dk_46 (dk_at dksX3_exchange_1 9 rfl rfl)
theorem dX3_exchange_33 : decode cX3_exchange 33 = .ok (.iload_n 1, 1) := dk_27 (dk_at dksX3_exchange_1 10 rfl rfl)
theorem dX3_exchange_34 : decode cX3_exchange 34 = .ok (.if_icmp .eq 14, 3) := dk_159 0 14 (dk_at dksX3_exchange_1 11 rfl rfl)
theorem dX3_exchange_37 : decode cX3_exchange 37 = .ok (.aload_n 0, 1) := dk_42 (dk_at dksX3_exchange_1 14 rfl rfl)
theorem dX3_exchange_38 : decode cX3_exchange 38 = .ok (.getfield 9, 3) := dk_180 0 9 (dk_at dksX3_exchange_1 15 rfl rfl)
theorem dX3_exchange_41 : decode cX3_exchange 41 = .ok (.iload 4, 2) := dk_21 4 (dk_at dksX3_exchange_1 18 rfl rfl)
theorem dX3_exchange_43 : decode cX3_exchange 43 = .ok (.iaload, 1) := dk_46 (dk_at dksX3_exchange_1 20 rfl rfl)
theorem dX3_exchange_44 : decode cX3_exchange 44 = .ok (.iload_n 2, 1) := dk_28 (dk_at dksX3_exchange_1 21 rfl rfl)
theorem dX3_exchange_45 : decode cX3_exchange 45 = .ok (.if_icmp .ne 7, 3) := dk_160 0 7 (dk_at dksX3_exchange_2 0 rfl rfl)
theorem dX3_exchange_48 : decode cX3_exchange 48 = .ok (.iconst 1, 1) := dk_4 (dk_at dksX3_exchange_2 3 rfl rfl)
theorem dX3_exchange_49 : decode cX3_exchange 49 = .ok (.goto 4, 3) := dk_167 0 4 (dk_at dksX3_exchange_2 4 rfl rfl)
theorem dX3_exchange_52 : decode cX3_exchange 52 = .ok (.iconst 0, 1) := dk_3 (dk_at dksX3_exchange_2 7 rfl rfl)
theorem dX3_exchange_53 : decode cX3_exchange 53 = .ok (.iadd, 1) := dk_96 (dk_at dksX3_exchange_2 8 rfl rfl)
theorem dX3_exchange_54 : decode cX3_exchange 54 = .ok (.istore_n 3, 1) := dk_62 (dk_at dksX3_exchange_2 9 rfl rfl)
theorem dX3_exchange_55 : decode cX3_exchange 55 = .ok (.aload_n 0, 1) := dk_42 (dk_at dksX3_exchange_2 10 rfl rfl)
theorem dX3_exchange_56 : decode cX3_exchange 56 = .ok (.getfield 9, 3) := dk_180 0 9 (dk_at dksX3_exchange_2 11 rfl rfl)
theorem dX3_exchange_59 : decode cX3_exchange 59 = .ok (.iload 4, 2) := dk_21 4 (dk_at dksX3_exchange_2 14 rfl rfl)
theorem dX3_exchange_61 : decode cX3_exchange 61 = .ok (.aload_n 0, 1) := dk_42 (dk_at dksX3_exchange_2 16 rfl rfl)
theorem dX3_exchange_62 : decode cX3_exchange 62 = .ok (.aload_n 0, 1) := dk_42 (dk_at dksX3_exchange_2 17 rfl rfl)
theorem dX3_exchange_63 : decode cX3_exchange 63 = .ok (.getfield 9, 3) := dk_180 0 9 (dk_at dksX3_exchange_2 18 rfl rfl)
theorem dX3_exchange_66 : decode cX3_exchange 66 = .ok (.iload 4, 2) := dk_21 4 (dk_at dksX3_exchange_2 21 rfl rfl)
theorem dX3_exchange_68 : decode cX3_exchange 68 = .ok (.iaload, 1) := dk_46 (dk_at dksX3_exchange_2 23 rfl rfl)
theorem dX3_exchange_69 : decode cX3_exchange 69 = .ok (.iload_n 1, 1) := dk_27 (dk_at dksX3_exchange_3 0 rfl rfl)
theorem dX3_exchange_70 : decode cX3_exchange 70 = .ok (.iload_n 2, 1) := dk_28 (dk_at dksX3_exchange_3 1 rfl rfl)
theorem dX3_exchange_71 : decode cX3_exchange 71 = .ok (.invokevirtual 87, 3) := dk_182 0 87 (dk_at dksX3_exchange_3 2 rfl rfl)
theorem dX3_exchange_74 : decode cX3_exchange 74 = .ok (.iastore, 1) := dk_79 (dk_at dksX3_exchange_3 5 rfl rfl)
theorem dX3_exchange_75 : decode cX3_exchange 75 = .ok (.iinc 4 1, 3) := dk_132 4 1 (dk_at dksX3_exchange_3 6 rfl rfl)
theorem dX3_exchange_78 : decode cX3_exchange 78 = .ok (.goto (-73), 3) := dk_167 255 183 (dk_at dksX3_exchange_3 9 rfl rfl)
theorem dX3_exchange_81 : decode cX3_exchange 81 = .ok (.iload_n 3, 1) := dk_29 (dk_at dksX3_exchange_3 12 rfl rfl)
theorem dX3_exchange_82 : decode cX3_exchange 82 = .ok (.ireturn, 1) := dk_172 (dk_at dksX3_exchange_3 13 rfl rfl)
abbrev cX3_exchanged : ByteArray := prog_8_method_20_code
def yX3_exchanged : MethodName := ⟨RX3, "exchanged", "(III)I"⟩
def dkwX3_exchanged_0 : List UInt8 := [27, 28, 160, 0, 7, 29, 167, 0, 13, 27, 29, 160, 0, 7, 28, 167, 0, 4, 27, 172]
abbrev dktX3_exchanged_0 : List UInt8 := dkwX3_exchanged_0 ++ []
theorem dksX3_exchanged_0 : cX3_exchanged.data.toList.drop 0 = dktX3_exchanged_0 := by decide +kernel
theorem dX3_exchanged_0 : decode cX3_exchanged 0 = .ok (.iload_n 1, 1) := dk_27 (dk_at dksX3_exchanged_0 0 rfl rfl)
theorem dX3_exchanged_1 : decode cX3_exchanged 1 = .ok (.iload_n 2, 1) := dk_28 (dk_at dksX3_exchanged_0 1 rfl rfl)
theorem dX3_exchanged_2 : decode cX3_exchanged 2 = .ok (.if_icmp .ne 7, 3) := dk_160 0 7 (dk_at dksX3_exchanged_0 2 rfl rfl)
theorem dX3_exchanged_5 : decode cX3_exchanged 5 = .ok (.iload_n 3, 1) := dk_29 (dk_at dksX3_exchanged_0 5 rfl rfl)
theorem dX3_exchanged_6 : decode cX3_exchanged 6 = .ok (.goto 13, 3) := dk_167 0 13 (dk_at dksX3_exchanged_0 6 rfl rfl)
theorem dX3_exchanged_9 : decode cX3_exchanged 9 = .ok (.iload_n 1, 1) := dk_27 (dk_at dksX3_exchanged_0 9 rfl rfl)
theorem dX3_exchanged_10 : decode cX3_exchanged 10 = .ok (.iload_n 3, 1) := dk_29 (dk_at dksX3_exchanged_0 10 rfl rfl)
theorem dX3_exchanged_11 : decode cX3_exchanged 11 = .ok (.if_icmp .ne 7, 3) := dk_160 0 7 (dk_at dksX3_exchanged_0 11 rfl rfl)
theorem dX3_exchanged_14 : decode cX3_exchanged 14 = .ok (.iload_n 2, 1) := dk_28 (dk_at dksX3_exchanged_0 14 rfl rfl)
theorem dX3_exchanged_15 : decode cX3_exchanged 15 = .ok (.goto 4, 3) := dk_167 0 4 (dk_at dksX3_exchanged_0 15 rfl rfl)
theorem dX3_exchanged_18 : decode cX3_exchanged 18 = .ok (.iload_n 1, 1) := dk_27 (dk_at dksX3_exchanged_0 18 rfl rfl)
theorem dX3_exchanged_19 : decode cX3_exchanged 19 = .ok (.ireturn, 1) := dk_172 (dk_at dksX3_exchanged_0 19 rfl rfl)
theorem q121 : (Jvm.Cond.initialized "EdgeLetters$Puzzle") ∈ lw_all := lw_g (lw_at lw_m1 3 rfl) rfl
theorem q168 : (Jvm.Cond.instantiable "EdgeLetters$Puzzle" (8 : Nat)) ∈ lw_all := lw_g (lw_at lw_m1 50 rfl) rfl
theorem q170 : (Jvm.Cond.instanceMethod ({ cls := "EdgeLetters$Puzzle", name := "<init>", desc := "()V" } : Jvm.MethodName)) ∈ lw_all := lw_g (lw_at lw_m1 52 rfl) rfl
theorem q171 : (Jvm.Cond.code ({ cls := "EdgeLetters$Puzzle", name := "<init>", desc := "()V" } : Jvm.MethodName) prog_8_method_1_code (1 : Nat) (Option.none : Option Jvm.ClassFile.FieldType)) ∈ lw_all := lw_g (lw_at lw_m1 53 rfl) rfl
theorem q172 : (Jvm.Cond.methodLink "EdgeLetters$Puzzle" (3 : Nat) ({ cls := "java/lang/Object", name := "<init>", desc := "()V" } : Jvm.MethodName)) ∈ lw_all := lw_g (lw_at lw_m1 54 rfl) rfl
theorem q173 : (Jvm.Cond.classLink "EdgeLetters$Puzzle" (15 : Nat) "[[I") ∈ lw_all := lw_g (lw_at lw_m1 55 rfl) rfl
theorem q175 : (Jvm.Cond.methodLink "EdgeLetters$Puzzle" (23 : Nat) ({ cls := "EdgeLetters$Puzzle", name := "begin", desc := "(II)V" } : Jvm.MethodName)) ∈ lw_all := lw_g (lw_at lw_m1 57 rfl) rfl
theorem q176 : (Jvm.Cond.instanceMethod ({ cls := "EdgeLetters$Puzzle", name := "begin", desc := "(II)V" } : Jvm.MethodName)) ∈ lw_all := lw_g (lw_at lw_m1 58 rfl) rfl
theorem q177 : (Jvm.Cond.selects "EdgeLetters$Puzzle" ({ cls := "EdgeLetters$Puzzle", name := "begin", desc := "(II)V" } : Jvm.MethodName) ({ cls := "EdgeLetters$Puzzle", name := "begin", desc := "(II)V" } : Jvm.MethodName)) ∈ lw_all := lw_g (lw_at lw_m1 59 rfl) rfl
theorem q178 : (Jvm.Cond.code ({ cls := "EdgeLetters$Puzzle", name := "begin", desc := "(II)V" } : Jvm.MethodName) prog_8_method_2_code (4 : Nat) (Option.none : Option Jvm.ClassFile.FieldType)) ∈ lw_all := lw_g (lw_at lw_m1 60 rfl) rfl
theorem q179 : (Jvm.Cond.methodLink "EdgeLetters$Puzzle" (41 : Nat) ({ cls := "EdgeLetters$Puzzle", name := "prepare", desc := "()V" } : Jvm.MethodName)) ∈ lw_all := lw_g (lw_at lw_m1 61 rfl) rfl
theorem q180 : (Jvm.Cond.privateMethod ({ cls := "EdgeLetters$Puzzle", name := "prepare", desc := "()V" } : Jvm.MethodName)) ∈ lw_tbl := lw_at lw_m1 62 rfl
theorem q181 : (Jvm.Cond.instanceMethod ({ cls := "EdgeLetters$Puzzle", name := "prepare", desc := "()V" } : Jvm.MethodName)) ∈ lw_all := lw_g (lw_at lw_m1 63 rfl) rfl
theorem q182 : (Jvm.Cond.code ({ cls := "EdgeLetters$Puzzle", name := "prepare", desc := "()V" } : Jvm.MethodName) prog_8_method_3_code (4 : Nat) (Option.none : Option Jvm.ClassFile.FieldType)) ∈ lw_all := lw_g (lw_at lw_m1 64 rfl) rfl
theorem q183 : (Jvm.Cond.classLink "EdgeLetters$Puzzle" (49 : Nat) "EdgeLetters$Arrangements") ∈ lw_all := lw_g (lw_at lw_m1 65 rfl) rfl
theorem q185 : (Jvm.Cond.methodLink "EdgeLetters$Puzzle" (52 : Nat) ({ cls := "EdgeLetters$Arrangements", name := "<init>", desc := "(II)V" } : Jvm.MethodName)) ∈ lw_all := lw_g (lw_at lw_m1 67 rfl) rfl
theorem q268 : (Jvm.Cond.selects "EdgeLetters$Puzzle" ({ cls := "java/lang/Object", name := "getClass", desc := "()Ljava/lang/Class;" } : Jvm.MethodName) ({ cls := "java/lang/Object", name := "getClass", desc := "()Ljava/lang/Class;" } : Jvm.MethodName)) ∈ lw_all := lw_g (lw_at lw_m1 150 rfl) rfl
theorem q303 : (Jvm.Cond.fieldLinkNest "EdgeLetters$Puzzle" (48 : Nat) "EdgeLetters$Arrangements" "side" "I" "EdgeLetters") ∈ lw_tbl := lw_at lw_m1 185 rfl
theorem q305 : (Jvm.Cond.fieldLinkNest "EdgeLetters$Puzzle" (51 : Nat) "EdgeLetters$Arrangements" "letters" "I" "EdgeLetters") ∈ lw_tbl := lw_at lw_m1 187 rfl
theorem q313 : (Jvm.Cond.methodLink "EdgeLetters$Puzzle" (54 : Nat) ({ cls := "EdgeLetters$Puzzle", name := "lineCount", desc := "()I" } : Jvm.MethodName)) ∈ lw_all := lw_g (lw_at lw_m1 195 rfl) rfl
theorem q314 : (Jvm.Cond.instanceMethod ({ cls := "EdgeLetters$Puzzle", name := "lineCount", desc := "()I" } : Jvm.MethodName)) ∈ lw_all := lw_g (lw_at lw_m1 196 rfl) rfl
theorem q315 : (Jvm.Cond.selects "EdgeLetters$Puzzle" ({ cls := "EdgeLetters$Puzzle", name := "lineCount", desc := "()I" } : Jvm.MethodName) ({ cls := "EdgeLetters$Puzzle", name := "lineCount", desc := "()I" } : Jvm.MethodName)) ∈ lw_all := lw_g (lw_at lw_m1 197 rfl) rfl
theorem q316 : (Jvm.Cond.code ({ cls := "EdgeLetters$Puzzle", name := "lineCount", desc := "()I" } : Jvm.MethodName) prog_8_method_6_code (1 : Nat) (Option.some Jvm.ClassFile.FieldType.int)) ∈ lw_all := lw_g (lw_at lw_m1 198 rfl) rfl
theorem q317 : (Jvm.Cond.methodLink "EdgeLetters$Puzzle" (58 : Nat) ({ cls := "EdgeLetters$Puzzle", name := "cellOf", desc := "(II)I" } : Jvm.MethodName)) ∈ lw_all := lw_g (lw_at lw_m1 199 rfl) rfl
theorem q318 : (Jvm.Cond.privateMethod ({ cls := "EdgeLetters$Puzzle", name := "cellOf", desc := "(II)I" } : Jvm.MethodName)) ∈ lw_tbl := lw_at lw_m1 200 rfl
theorem q319 : (Jvm.Cond.instanceMethod ({ cls := "EdgeLetters$Puzzle", name := "cellOf", desc := "(II)I" } : Jvm.MethodName)) ∈ lw_all := lw_g (lw_at lw_m1 201 rfl) rfl
theorem q320 : (Jvm.Cond.code ({ cls := "EdgeLetters$Puzzle", name := "cellOf", desc := "(II)I" } : Jvm.MethodName) prog_8_method_4_code (3 : Nat) (Option.some Jvm.ClassFile.FieldType.int)) ∈ lw_all := lw_g (lw_at lw_m1 202 rfl) rfl
theorem q321 : (Jvm.Cond.fieldLink "EdgeLetters$Puzzle" (9 : Nat) "EdgeLetters$Puzzle" "tellings" "[I") ∈ lw_all := lw_g (lw_at lw_m1 203 rfl) rfl
theorem q323 : (Jvm.Cond.fieldLink "EdgeLetters$Puzzle" (17 : Nat) "EdgeLetters$Puzzle" "lines" "[[I") ∈ lw_all := lw_g (lw_at lw_m1 205 rfl) rfl
theorem q326 : (Jvm.Cond.fieldLink "EdgeLetters$Puzzle" (20 : Nat) "EdgeLetters$Puzzle" "linesOf" "[I") ∈ lw_all := lw_g (lw_at lw_m1 208 rfl) rfl
theorem q328 : (Jvm.Cond.fieldLink "EdgeLetters$Puzzle" (44 : Nat) "EdgeLetters$Puzzle" "arrangements" "LEdgeLetters$Arrangements;") ∈ lw_all := lw_g (lw_at lw_m1 210 rfl) rfl
theorem q330 : (Jvm.Cond.fieldLink "EdgeLetters$Puzzle" (27 : Nat) "EdgeLetters$Puzzle" "side" "I") ∈ lw_all := lw_g (lw_at lw_m1 212 rfl) rfl
theorem q334 : (Jvm.Cond.fieldLink "EdgeLetters$Puzzle" (31 : Nat) "EdgeLetters$Puzzle" "letters" "I") ∈ lw_all := lw_g (lw_at lw_m1 216 rfl) rfl
theorem q336 : (Jvm.Cond.fieldLink "EdgeLetters$Puzzle" (34 : Nat) "EdgeLetters$Puzzle" "seconds" "I") ∈ lw_all := lw_g (lw_at lw_m1 218 rfl) rfl
theorem q338 : (Jvm.Cond.fieldLink "EdgeLetters$Puzzle" (37 : Nat) "EdgeLetters$Puzzle" "diagonals" "Z") ∈ lw_all := lw_g (lw_at lw_m1 220 rfl) rfl
theorem q340 : (Jvm.Cond.laysFinal "EdgeLetters$Puzzle" "EdgeLetters$Puzzle" "tellings" "[I") ∈ lw_all := lw_g (lw_at lw_m1 222 rfl) rfl
theorem q341 : (Jvm.Cond.soleField "EdgeLetters$Puzzle" "tellings") ∈ lw_all := lw_g (lw_at lw_m1 223 rfl) rfl
theorem q342 : (Jvm.Cond.laysFinal "EdgeLetters$Puzzle" "EdgeLetters$Puzzle" "lines" "[[I") ∈ lw_all := lw_g (lw_at lw_m1 224 rfl) rfl
theorem q343 : (Jvm.Cond.soleField "EdgeLetters$Puzzle" "lines") ∈ lw_all := lw_g (lw_at lw_m1 225 rfl) rfl
theorem q344 : (Jvm.Cond.laysFinal "EdgeLetters$Puzzle" "EdgeLetters$Puzzle" "linesOf" "[I") ∈ lw_all := lw_g (lw_at lw_m1 226 rfl) rfl
theorem q345 : (Jvm.Cond.soleField "EdgeLetters$Puzzle" "linesOf") ∈ lw_all := lw_g (lw_at lw_m1 227 rfl) rfl
theorem q346 : (Jvm.Cond.lays "EdgeLetters$Puzzle" "EdgeLetters$Puzzle" "arrangements" "LEdgeLetters$Arrangements;") ∈ lw_all := lw_g (lw_at lw_m1 228 rfl) rfl
theorem q347 : (Jvm.Cond.soleField "EdgeLetters$Puzzle" "arrangements") ∈ lw_all := lw_g (lw_at lw_m1 229 rfl) rfl
theorem q348 : (Jvm.Cond.lays "EdgeLetters$Puzzle" "EdgeLetters$Puzzle" "side" "I") ∈ lw_all := lw_g (lw_at lw_m1 230 rfl) rfl
theorem q349 : (Jvm.Cond.soleField "EdgeLetters$Puzzle" "side") ∈ lw_all := lw_g (lw_at lw_m1 231 rfl) rfl
theorem q350 : (Jvm.Cond.lays "EdgeLetters$Puzzle" "EdgeLetters$Puzzle" "letters" "I") ∈ lw_all := lw_g (lw_at lw_m1 232 rfl) rfl
theorem q351 : (Jvm.Cond.soleField "EdgeLetters$Puzzle" "letters") ∈ lw_all := lw_g (lw_at lw_m1 233 rfl) rfl
theorem q352 : (Jvm.Cond.lays "EdgeLetters$Puzzle" "EdgeLetters$Puzzle" "seconds" "I") ∈ lw_all := lw_g (lw_at lw_m1 234 rfl) rfl
theorem q353 : (Jvm.Cond.soleField "EdgeLetters$Puzzle" "seconds") ∈ lw_all := lw_g (lw_at lw_m1 235 rfl) rfl
theorem q354 : (Jvm.Cond.lays "EdgeLetters$Puzzle" "EdgeLetters$Puzzle" "diagonals" "Z") ∈ lw_all := lw_g (lw_at lw_m1 236 rfl) rfl
theorem q355 : (Jvm.Cond.soleField "EdgeLetters$Puzzle" "diagonals") ∈ lw_all := lw_g (lw_at lw_m1 237 rfl) rfl
theorem q356 : (Jvm.Cond.superclass "EdgeLetters$Puzzle" "java/lang/Object") ∈ lw_all := lw_g (lw_at lw_m1 238 rfl) rfl
theorem q369 : (Jvm.Cond.instanceMethod ({ cls := "EdgeLetters$Puzzle", name := "cellCount", desc := "()I" } : Jvm.MethodName)) ∈ lw_all := lw_g (lw_at lw_m2 11 rfl) rfl
theorem q370 : (Jvm.Cond.selects "EdgeLetters$Puzzle" ({ cls := "EdgeLetters$Puzzle", name := "cellCount", desc := "()I" } : Jvm.MethodName) ({ cls := "EdgeLetters$Puzzle", name := "cellCount", desc := "()I" } : Jvm.MethodName)) ∈ lw_all := lw_g (lw_at lw_m2 12 rfl) rfl
theorem q371 : (Jvm.Cond.code ({ cls := "EdgeLetters$Puzzle", name := "cellCount", desc := "()I" } : Jvm.MethodName) prog_8_method_7_code (1 : Nat) (Option.some Jvm.ClassFile.FieldType.int)) ∈ lw_all := lw_g (lw_at lw_m2 13 rfl) rfl
theorem q508 : (Jvm.Cond.instanceMethod ({ cls := "EdgeLetters$Puzzle", name := "setAll", desc := "(LEdgeLetters$Puzzle;)V" } : Jvm.MethodName)) ∈ lw_all := lw_g (lw_at lw_m2 150 rfl) rfl
theorem q509 : (Jvm.Cond.selects "EdgeLetters$Puzzle" ({ cls := "EdgeLetters$Puzzle", name := "setAll", desc := "(LEdgeLetters$Puzzle;)V" } : Jvm.MethodName) ({ cls := "EdgeLetters$Puzzle", name := "setAll", desc := "(LEdgeLetters$Puzzle;)V" } : Jvm.MethodName)) ∈ lw_all := lw_g (lw_at lw_m2 151 rfl) rfl
theorem q510 : (Jvm.Cond.code ({ cls := "EdgeLetters$Puzzle", name := "setAll", desc := "(LEdgeLetters$Puzzle;)V" } : Jvm.MethodName) prog_8_method_5_code (2 : Nat) (Option.none : Option Jvm.ClassFile.FieldType)) ∈ lw_all := lw_g (lw_at lw_m2 152 rfl) rfl
theorem q511 : (Jvm.Cond.methodLink "EdgeLetters$Puzzle" (62 : Nat) ({ cls := "java/lang/System", name := "arraycopy", desc := "(Ljava/lang/Object;ILjava/lang/Object;II)V" } : Jvm.MethodName)) ∈ lw_all := lw_g (lw_at lw_m2 153 rfl) rfl
theorem q520 : (Jvm.Cond.instanceMethod ({ cls := "EdgeLetters$Puzzle", name := "turnDiagonals", desc := "()V" } : Jvm.MethodName)) ∈ lw_all := lw_g (lw_at lw_m2 162 rfl) rfl
theorem q521 : (Jvm.Cond.selects "EdgeLetters$Puzzle" ({ cls := "EdgeLetters$Puzzle", name := "turnDiagonals", desc := "()V" } : Jvm.MethodName) ({ cls := "EdgeLetters$Puzzle", name := "turnDiagonals", desc := "()V" } : Jvm.MethodName)) ∈ lw_all := lw_g (lw_at lw_m2 163 rfl) rfl
theorem q522 : (Jvm.Cond.code ({ cls := "EdgeLetters$Puzzle", name := "turnDiagonals", desc := "()V" } : Jvm.MethodName) prog_8_method_10_code (1 : Nat) (Option.none : Option Jvm.ClassFile.FieldType)) ∈ lw_all := lw_g (lw_at lw_m2 164 rfl) rfl
theorem q528 : (Jvm.Cond.instanceMethod ({ cls := "EdgeLetters$Puzzle", name := "edgeCount", desc := "()I" } : Jvm.MethodName)) ∈ lw_all := lw_g (lw_at lw_m2 170 rfl) rfl
theorem q529 : (Jvm.Cond.selects "EdgeLetters$Puzzle" ({ cls := "EdgeLetters$Puzzle", name := "edgeCount", desc := "()I" } : Jvm.MethodName) ({ cls := "EdgeLetters$Puzzle", name := "edgeCount", desc := "()I" } : Jvm.MethodName)) ∈ lw_all := lw_g (lw_at lw_m2 171 rfl) rfl
theorem q530 : (Jvm.Cond.code ({ cls := "EdgeLetters$Puzzle", name := "edgeCount", desc := "()I" } : Jvm.MethodName) prog_8_method_8_code (1 : Nat) (Option.some Jvm.ClassFile.FieldType.int)) ∈ lw_all := lw_g (lw_at lw_m2 172 rfl) rfl
theorem q532 : (Jvm.Cond.instanceMethod ({ cls := "EdgeLetters$Puzzle", name := "lineAt", desc := "(I)I" } : Jvm.MethodName)) ∈ lw_all := lw_g (lw_at lw_m2 174 rfl) rfl
theorem q533 : (Jvm.Cond.selects "EdgeLetters$Puzzle" ({ cls := "EdgeLetters$Puzzle", name := "lineAt", desc := "(I)I" } : Jvm.MethodName) ({ cls := "EdgeLetters$Puzzle", name := "lineAt", desc := "(I)I" } : Jvm.MethodName)) ∈ lw_all := lw_g (lw_at lw_m2 175 rfl) rfl
theorem q534 : (Jvm.Cond.code ({ cls := "EdgeLetters$Puzzle", name := "lineAt", desc := "(I)I" } : Jvm.MethodName) prog_8_method_13_code (3 : Nat) (Option.some Jvm.ClassFile.FieldType.int)) ∈ lw_all := lw_g (lw_at lw_m2 176 rfl) rfl
theorem q552 : (Jvm.Cond.instanceMethod ({ cls := "EdgeLetters$Puzzle", name := "looksBack", desc := "(I)Z" } : Jvm.MethodName)) ∈ lw_all := lw_g (lw_at lw_m2 194 rfl) rfl
theorem q553 : (Jvm.Cond.selects "EdgeLetters$Puzzle" ({ cls := "EdgeLetters$Puzzle", name := "looksBack", desc := "(I)Z" } : Jvm.MethodName) ({ cls := "EdgeLetters$Puzzle", name := "looksBack", desc := "(I)Z" } : Jvm.MethodName)) ∈ lw_all := lw_g (lw_at lw_m2 195 rfl) rfl
theorem q554 : (Jvm.Cond.code ({ cls := "EdgeLetters$Puzzle", name := "looksBack", desc := "(I)Z" } : Jvm.MethodName) prog_8_method_14_code (2 : Nat) (Option.some Jvm.ClassFile.FieldType.boolean)) ∈ lw_all := lw_g (lw_at lw_m2 196 rfl) rfl
theorem q559 : (Jvm.Cond.instanceMethod ({ cls := "EdgeLetters$Puzzle", name := "tell", desc := "(IIZ)I" } : Jvm.MethodName)) ∈ lw_all := lw_g (lw_at lw_m2 201 rfl) rfl
theorem q560 : (Jvm.Cond.selects "EdgeLetters$Puzzle" ({ cls := "EdgeLetters$Puzzle", name := "tell", desc := "(IIZ)I" } : Jvm.MethodName) ({ cls := "EdgeLetters$Puzzle", name := "tell", desc := "(IIZ)I" } : Jvm.MethodName)) ∈ lw_all := lw_g (lw_at lw_m2 202 rfl) rfl
theorem q561 : (Jvm.Cond.code ({ cls := "EdgeLetters$Puzzle", name := "tell", desc := "(IIZ)I" } : Jvm.MethodName) prog_8_method_12_code (5 : Nat) (Option.some Jvm.ClassFile.FieldType.int)) ∈ lw_all := lw_g (lw_at lw_m2 203 rfl) rfl
theorem q563 : (Jvm.Cond.instanceMethod ({ cls := "EdgeLetters$Puzzle", name := "told", desc := "()I" } : Jvm.MethodName)) ∈ lw_all := lw_g (lw_at lw_m2 205 rfl) rfl
theorem q564 : (Jvm.Cond.selects "EdgeLetters$Puzzle" ({ cls := "EdgeLetters$Puzzle", name := "told", desc := "()I" } : Jvm.MethodName) ({ cls := "EdgeLetters$Puzzle", name := "told", desc := "()I" } : Jvm.MethodName)) ∈ lw_all := lw_g (lw_at lw_m2 206 rfl) rfl
theorem q565 : (Jvm.Cond.code ({ cls := "EdgeLetters$Puzzle", name := "told", desc := "()I" } : Jvm.MethodName) prog_8_method_11_code (3 : Nat) (Option.some Jvm.ClassFile.FieldType.int)) ∈ lw_all := lw_g (lw_at lw_m2 207 rfl) rfl
theorem q566 : (Jvm.Cond.methodLink "EdgeLetters$Puzzle" (68 : Nat) ({ cls := "EdgeLetters$Puzzle", name := "edgeCount", desc := "()I" } : Jvm.MethodName)) ∈ lw_all := lw_g (lw_at lw_m2 208 rfl) rfl
theorem q574 : (Jvm.Cond.instanceMethod ({ cls := "EdgeLetters$Puzzle", name := "mirrored", desc := "(I)I" } : Jvm.MethodName)) ∈ lw_all := lw_g (lw_at lw_m2 216 rfl) rfl
theorem q575 : (Jvm.Cond.selects "EdgeLetters$Puzzle" ({ cls := "EdgeLetters$Puzzle", name := "mirrored", desc := "(I)I" } : Jvm.MethodName) ({ cls := "EdgeLetters$Puzzle", name := "mirrored", desc := "(I)I" } : Jvm.MethodName)) ∈ lw_all := lw_g (lw_at lw_m2 217 rfl) rfl
theorem q576 : (Jvm.Cond.code ({ cls := "EdgeLetters$Puzzle", name := "mirrored", desc := "(I)I" } : Jvm.MethodName) prog_8_method_18_code (2 : Nat) (Option.some Jvm.ClassFile.FieldType.int)) ∈ lw_all := lw_g (lw_at lw_m2 218 rfl) rfl
theorem q579 : (Jvm.Cond.instanceMethod ({ cls := "EdgeLetters$Puzzle", name := "mirroredEdge", desc := "(I)I" } : Jvm.MethodName)) ∈ lw_all := lw_g (lw_at lw_m2 221 rfl) rfl
theorem q580 : (Jvm.Cond.selects "EdgeLetters$Puzzle" ({ cls := "EdgeLetters$Puzzle", name := "mirroredEdge", desc := "(I)I" } : Jvm.MethodName) ({ cls := "EdgeLetters$Puzzle", name := "mirroredEdge", desc := "(I)I" } : Jvm.MethodName)) ∈ lw_all := lw_g (lw_at lw_m2 222 rfl) rfl
theorem q581 : (Jvm.Cond.code ({ cls := "EdgeLetters$Puzzle", name := "mirroredEdge", desc := "(I)I" } : Jvm.MethodName) prog_8_method_19_code (2 : Nat) (Option.some Jvm.ClassFile.FieldType.int)) ∈ lw_all := lw_g (lw_at lw_m2 223 rfl) rfl
theorem q657 : (Jvm.Cond.instanceMethod ({ cls := "EdgeLetters$Puzzle", name := "isTrue", desc := "(I[I)Z" } : Jvm.MethodName)) ∈ lw_all := lw_g (lw_at lw_m3 59 rfl) rfl
theorem q658 : (Jvm.Cond.selects "EdgeLetters$Puzzle" ({ cls := "EdgeLetters$Puzzle", name := "isTrue", desc := "(I[I)Z" } : Jvm.MethodName) ({ cls := "EdgeLetters$Puzzle", name := "isTrue", desc := "(I[I)Z" } : Jvm.MethodName)) ∈ lw_all := lw_g (lw_at lw_m3 60 rfl) rfl
theorem q659 : (Jvm.Cond.code ({ cls := "EdgeLetters$Puzzle", name := "isTrue", desc := "(I[I)Z" } : Jvm.MethodName) prog_8_method_17_code (3 : Nat) (Option.some Jvm.ClassFile.FieldType.boolean)) ∈ lw_all := lw_g (lw_at lw_m3 61 rfl) rfl
theorem q660 : (Jvm.Cond.methodLink "EdgeLetters$Puzzle" (79 : Nat) ({ cls := "EdgeLetters$Puzzle", name := "edgeOf", desc := "(IZ)I" } : Jvm.MethodName)) ∈ lw_all := lw_g (lw_at lw_m3 62 rfl) rfl
theorem q661 : (Jvm.Cond.privateMethod ({ cls := "EdgeLetters$Puzzle", name := "edgeOf", desc := "(IZ)I" } : Jvm.MethodName)) ∈ lw_tbl := lw_at lw_m3 63 rfl
theorem q662 : (Jvm.Cond.instanceMethod ({ cls := "EdgeLetters$Puzzle", name := "edgeOf", desc := "(IZ)I" } : Jvm.MethodName)) ∈ lw_all := lw_g (lw_at lw_m3 64 rfl) rfl
theorem q663 : (Jvm.Cond.code ({ cls := "EdgeLetters$Puzzle", name := "edgeOf", desc := "(IZ)I" } : Jvm.MethodName) prog_8_method_15_code (3 : Nat) (Option.some Jvm.ClassFile.FieldType.int)) ∈ lw_all := lw_g (lw_at lw_m3 65 rfl) rfl
theorem q664 : (Jvm.Cond.methodLink "EdgeLetters$Puzzle" (83 : Nat) ({ cls := "EdgeLetters$Puzzle", name := "isTrueAt", desc := "(I[I)Z" } : Jvm.MethodName)) ∈ lw_all := lw_g (lw_at lw_m3 66 rfl) rfl
theorem q665 : (Jvm.Cond.privateMethod ({ cls := "EdgeLetters$Puzzle", name := "isTrueAt", desc := "(I[I)Z" } : Jvm.MethodName)) ∈ lw_tbl := lw_at lw_m3 67 rfl
theorem q666 : (Jvm.Cond.instanceMethod ({ cls := "EdgeLetters$Puzzle", name := "isTrueAt", desc := "(I[I)Z" } : Jvm.MethodName)) ∈ lw_all := lw_g (lw_at lw_m3 68 rfl) rfl
theorem q667 : (Jvm.Cond.code ({ cls := "EdgeLetters$Puzzle", name := "isTrueAt", desc := "(I[I)Z" } : Jvm.MethodName) prog_8_method_16_code (4 : Nat) (Option.some Jvm.ClassFile.FieldType.boolean)) ∈ lw_all := lw_g (lw_at lw_m3 69 rfl) rfl
theorem q668 : (Jvm.Cond.methodLink "EdgeLetters$Puzzle" (71 : Nat) ({ cls := "EdgeLetters$Puzzle", name := "looksBack", desc := "(I)Z" } : Jvm.MethodName)) ∈ lw_all := lw_g (lw_at lw_m3 70 rfl) rfl
theorem q669 : (Jvm.Cond.methodLinkNest "EdgeLetters$Puzzle" (75 : Nat) ({ cls := "EdgeLetters", name := "seen", desc := "(IIZ[I)I" } : Jvm.MethodName) "EdgeLetters") ∈ lw_tbl := lw_at lw_m3 71 rfl
theorem q748 : (Jvm.Cond.instanceMethod ({ cls := "EdgeLetters$Puzzle", name := "gaps", desc := "()I" } : Jvm.MethodName)) ∈ lw_all := lw_g (lw_at lw_m3 150 rfl) rfl
theorem q749 : (Jvm.Cond.selects "EdgeLetters$Puzzle" ({ cls := "EdgeLetters$Puzzle", name := "gaps", desc := "()I" } : Jvm.MethodName) ({ cls := "EdgeLetters$Puzzle", name := "gaps", desc := "()I" } : Jvm.MethodName)) ∈ lw_all := lw_g (lw_at lw_m3 151 rfl) rfl
theorem q750 : (Jvm.Cond.code ({ cls := "EdgeLetters$Puzzle", name := "gaps", desc := "()I" } : Jvm.MethodName) prog_8_method_9_code (1 : Nat) (Option.some Jvm.ClassFile.FieldType.int)) ∈ lw_all := lw_g (lw_at lw_m3 152 rfl) rfl
theorem q1432 : (Jvm.Cond.instanceMethod ({ cls := "EdgeLetters$Puzzle", name := "exchange", desc := "(II)I" } : Jvm.MethodName)) ∈ lw_all := lw_g (lw_at lw_m6 114 rfl) rfl
theorem q1433 : (Jvm.Cond.selects "EdgeLetters$Puzzle" ({ cls := "EdgeLetters$Puzzle", name := "exchange", desc := "(II)I" } : Jvm.MethodName) ({ cls := "EdgeLetters$Puzzle", name := "exchange", desc := "(II)I" } : Jvm.MethodName)) ∈ lw_all := lw_g (lw_at lw_m6 115 rfl) rfl
theorem q1434 : (Jvm.Cond.code ({ cls := "EdgeLetters$Puzzle", name := "exchange", desc := "(II)I" } : Jvm.MethodName) prog_8_method_21_code (5 : Nat) (Option.some Jvm.ClassFile.FieldType.int)) ∈ lw_all := lw_g (lw_at lw_m6 116 rfl) rfl
theorem q1435 : (Jvm.Cond.methodLink "EdgeLetters$Puzzle" (87 : Nat) ({ cls := "EdgeLetters$Puzzle", name := "exchanged", desc := "(III)I" } : Jvm.MethodName)) ∈ lw_all := lw_g (lw_at lw_m6 117 rfl) rfl
theorem q1436 : (Jvm.Cond.privateMethod ({ cls := "EdgeLetters$Puzzle", name := "exchanged", desc := "(III)I" } : Jvm.MethodName)) ∈ lw_tbl := lw_at lw_m6 118 rfl
theorem q1437 : (Jvm.Cond.instanceMethod ({ cls := "EdgeLetters$Puzzle", name := "exchanged", desc := "(III)I" } : Jvm.MethodName)) ∈ lw_all := lw_g (lw_at lw_m6 119 rfl) rfl
theorem q1438 : (Jvm.Cond.code ({ cls := "EdgeLetters$Puzzle", name := "exchanged", desc := "(III)I" } : Jvm.MethodName) prog_8_method_20_code (4 : Nat) (Option.some Jvm.ClassFile.FieldType.int)) ∈ lw_all := lw_g (lw_at lw_m6 120 rfl) rfl
theorem q2315 : (Jvm.Cond.castable "EdgeLetters$Puzzle" "java/lang/Object") ∈ lw_tbl := lw_at lw_m10 37 rfl
theorem in_X3 : ∀ w ∈ wsX30, w ∈ lw_all := lw_in wsX30 [340, 342, 344, 346, 348, 350, 352, 354] (by decide +kernel) (by decide +kernel)
/-! EdgeLetters$Arrangements -/
set_option maxRecDepth 100000
def RX4 : String := "EdgeLetters$Arrangements"
def TX4 : u_T := fun k => match k with
  | 0 => ("EdgeLetters$Arrangements", "all", "Ljava/util/List;", true)
  | 1 => ("EdgeLetters$Arrangements", "side", "I", true)
  | _ => ("EdgeLetters$Arrangements", "letters", "I", true)
def tyX4 : Nat → FieldType := fun k => match k with
  | 0 => .object "java/util/List"
  | 1 => .int
  | _ => .int
abbrev wsX40 : List Cond := u_ws RX4 TX4 3
theorem nmX4 : ∀ a, a < 3 → ∀ b, b < 3 → a ≠ b → (TX4 a).2.1 ≠ (TX4 b).2.1 := by decide +kernel
theorem tyX4_ok : ∀ k, k < 3 → parseFieldDescriptor (TX4 k).2.2.1 = some (tyX4 k) := by decide +kernel
abbrev cX4_init : ByteArray := prog_2_method_1_code
def yX4_init : MethodName := ⟨RX4, "<init>", "(II)V"⟩
def dkwX4_init_1 : List UInt8 := [181, 0, 20, 42, 3, 3, 27, 188, 10, 182, 0, 23, 177]
abbrev dktX4_init_1 : List UInt8 := dkwX4_init_1 ++ []
def dkwX4_init_0 : List UInt8 := [42, 183, 0, 1, 42, 187, 0, 7, 89, 183, 0, 9, 181, 0, 10, 42, 27, 181, 0, 16, 42, 28]
abbrev dktX4_init_0 : List UInt8 := dkwX4_init_0 ++ dktX4_init_1
theorem dksX4_init_0 : cX4_init.data.toList.drop 0 = dktX4_init_0 := by decide +kernel
theorem dksX4_init_1 : cX4_init.data.toList.drop 22 = dktX4_init_1 := dk_seg dksX4_init_0 22 rfl rfl
theorem dX4_init_0 : decode cX4_init 0 = .ok (.aload_n 0, 1) := dk_42 (dk_at dksX4_init_0 0 rfl rfl)
theorem dX4_init_1 : decode cX4_init 1 = .ok (.invokespecial 1, 3) := dk_183 0 1 (dk_at dksX4_init_0 1 rfl rfl)
theorem dX4_init_4 : decode cX4_init 4 = .ok (.aload_n 0, 1) := dk_42 (dk_at dksX4_init_0 4 rfl rfl)
theorem dX4_init_5 : decode cX4_init 5 = .ok (.new 7, 3) := dk_187 0 7 (dk_at dksX4_init_0 5 rfl rfl)
theorem dX4_init_8 : decode cX4_init 8 = .ok (.dup, 1) := dk_89 (dk_at dksX4_init_0 8 rfl rfl)
theorem dX4_init_9 : decode cX4_init 9 = .ok (.invokespecial 9, 3) := dk_183 0 9 (dk_at dksX4_init_0 9 rfl rfl)
theorem dX4_init_12 : decode cX4_init 12 = .ok (.putfield 10, 3) := dk_181 0 10 (dk_at dksX4_init_0 12 rfl rfl)
theorem dX4_init_15 : decode cX4_init 15 = .ok (.aload_n 0, 1) := dk_42 (dk_at dksX4_init_0 15 rfl rfl)
theorem dX4_init_16 : decode cX4_init 16 = .ok (.iload_n 1, 1) := dk_27 (dk_at dksX4_init_0 16 rfl rfl)
theorem dX4_init_17 : decode cX4_init 17 = .ok (.putfield 16, 3) := dk_181 0 16 (dk_at dksX4_init_0 17 rfl rfl)
theorem dX4_init_20 : decode cX4_init 20 = .ok (.aload_n 0, 1) := dk_42 (dk_at dksX4_init_0 20 rfl rfl)
theorem dX4_init_21 : decode cX4_init 21 = .ok (.iload_n 2, 1) := dk_28 (dk_at dksX4_init_0 21 rfl rfl)
theorem dX4_init_22 : decode cX4_init 22 = .ok (.putfield 20, 3) := dk_181 0 20 (dk_at dksX4_init_1 0 rfl rfl)
theorem dX4_init_25 : decode cX4_init 25 = .ok (.aload_n 0, 1) := dk_42 (dk_at dksX4_init_1 3 rfl rfl)
theorem dX4_init_26 : decode cX4_init 26 = .ok (.iconst 0, 1) := dk_3 (dk_at dksX4_init_1 4 rfl rfl)
theorem dX4_init_27 : decode cX4_init 27 = .ok (.iconst 0, 1) := dk_3 (dk_at dksX4_init_1 5 rfl rfl)
theorem dX4_init_28 : decode cX4_init 28 = .ok (.iload_n 1, 1) := dk_27 (dk_at dksX4_init_1 6 rfl rfl)
theorem dX4_init_29 : decode cX4_init 29 = .ok (.newarray .int, 2) := dk_188_10 (dk_at dksX4_init_1 7 rfl rfl)
theorem dX4_init_31 : decode cX4_init 31 = .ok (.invokevirtual 23, 3) := dk_182 0 23 (dk_at dksX4_init_1 9 rfl rfl)
theorem dX4_init_34 : decode cX4_init 34 = .ok (.return_, 1) := dk_177 (dk_at dksX4_init_1 12 rfl rfl)
abbrev cX4_make : ByteArray := prog_2_method_2_code
def yX4_make : MethodName := ⟨RX4, "make", "(II[I)V"⟩
def dkwX4_make_6 : List UInt8 := [120, 128, 45, 182, 0, 23, 132, 4, 1, 167, 255, 152, 177]
abbrev dktX4_make_6 : List UInt8 := dkwX4_make_6 ++ []
def dkwX4_make_5 : List UInt8 := [153, 0, 30, 42, 27, 4, 96, 21, 4, 42, 180, 0, 20, 160, 0, 7, 28, 167, 0, 9, 28, 4, 21, 4]
abbrev dktX4_make_5 : List UInt8 := dkwX4_make_5 ++ dktX4_make_6
def dkwX4_make_4 : List UInt8 := [28, 21, 4, 184, 0, 45, 154, 0, 7, 4, 167, 0, 4, 3, 54, 6, 45, 27, 21, 4, 79, 21, 6]
abbrev dktX4_make_4 : List UInt8 := dkwX4_make_4 ++ dktX4_make_5
def dkwX4_make_3 : List UInt8 := [164, 0, 7, 4, 167, 0, 4, 3, 54, 5, 21, 4, 42, 180, 0, 20, 160, 0, 8, 21, 5, 167, 0, 17]
abbrev dktX4_make_3 : List UInt8 := dkwX4_make_3 ++ dktX4_make_4
def dkwX4_make_2 : List UInt8 := [42, 180, 0, 20, 163, 0, 101, 42, 180, 0, 16, 27, 100, 42, 180, 0, 20, 28, 184, 0, 39, 100]
abbrev dktX4_make_2 : List UInt8 := dkwX4_make_2 ++ dktX4_make_3
def dkwX4_make_1 : List UInt8 := [180, 0, 16, 184, 0, 27, 42, 180, 0, 10, 25, 4, 185, 0, 33, 2, 0, 87, 177, 3, 54, 4, 21, 4]
abbrev dktX4_make_1 : List UInt8 := dkwX4_make_1 ++ dktX4_make_2
def dkwX4_make_0 : List UInt8 := [27, 42, 180, 0, 16, 160, 0, 36, 42, 180, 0, 16, 188, 10, 58, 4, 45, 3, 25, 4, 3, 42]
abbrev dktX4_make_0 : List UInt8 := dkwX4_make_0 ++ dktX4_make_1
theorem dksX4_make_0 : cX4_make.data.toList.drop 0 = dktX4_make_0 := by decide +kernel
theorem dksX4_make_1 : cX4_make.data.toList.drop 22 = dktX4_make_1 := dk_seg dksX4_make_0 22 rfl rfl
theorem dksX4_make_2 : cX4_make.data.toList.drop 46 = dktX4_make_2 := dk_seg dksX4_make_1 24 rfl rfl
theorem dksX4_make_3 : cX4_make.data.toList.drop 68 = dktX4_make_3 := dk_seg dksX4_make_2 22 rfl rfl
theorem dksX4_make_4 : cX4_make.data.toList.drop 92 = dktX4_make_4 := dk_seg dksX4_make_3 24 rfl rfl
theorem dksX4_make_5 : cX4_make.data.toList.drop 115 = dktX4_make_5 := dk_seg dksX4_make_4 23 rfl rfl
theorem dksX4_make_6 : cX4_make.data.toList.drop 139 = dktX4_make_6 := dk_seg dksX4_make_5 24 rfl rfl
theorem dX4_make_0 : decode cX4_make 0 = .ok (.iload_n 1, 1) := dk_27 (dk_at dksX4_make_0 0 rfl rfl)
theorem dX4_make_1 : decode cX4_make 1 = .ok (.aload_n 0, 1) := dk_42 (dk_at dksX4_make_0 1 rfl rfl)
theorem dX4_make_2 : decode cX4_make 2 = .ok (.getfield 16, 3) := dk_180 0 16 (dk_at dksX4_make_0 2 rfl rfl)
theorem dX4_make_5 : decode cX4_make 5 = .ok (.if_icmp .ne 36, 3) := dk_160 0 36 (dk_at dksX4_make_0 5 rfl rfl)
theorem dX4_make_8 : decode cX4_make 8 = .ok (.aload_n 0, 1) := dk_42 (dk_at dksX4_make_0 8 rfl rfl)
theorem dX4_make_9 : decode cX4_make 9 = .ok (.getfield 16, 3) := dk_180 0 16 (dk_at dksX4_make_0 9 rfl rfl)
theorem dX4_make_12 : decode cX4_make 12 = .ok (.newarray .int, 2) := dk_188_10 (dk_at dksX4_make_0 12 rfl rfl)
theorem dX4_make_14 : decode cX4_make 14 = .ok (.astore 4, 2) := dk_58 4 (dk_at dksX4_make_0 14 rfl rfl)
theorem dX4_make_16 : decode cX4_make 16 = .ok (.aload_n 3, 1) := dk_45 (dk_at dksX4_make_0 16 rfl rfl)
theorem dX4_make_17 : decode cX4_make 17 = .ok (.iconst 0, 1) := dk_3 (dk_at dksX4_make_0 17 rfl rfl)
theorem dX4_make_18 : decode cX4_make 18 = .ok (.aload 4, 2) := dk_25 4 (dk_at dksX4_make_0 18 rfl rfl)
theorem dX4_make_20 : decode cX4_make 20 = .ok (.iconst 0, 1) := dk_3 (dk_at dksX4_make_0 20 rfl rfl)
theorem dX4_make_21 : decode cX4_make 21 = .ok (.aload_n 0, 1) := dk_42 (dk_at dksX4_make_0 21 rfl rfl)
theorem dX4_make_22 : decode cX4_make 22 = .ok (.getfield 16, 3) := dk_180 0 16 (dk_at dksX4_make_1 0 rfl rfl)
theorem dX4_make_25 : decode cX4_make 25 = .ok (.invokestatic 27, 3) := dk_184 0 27 (dk_at dksX4_make_1 3 rfl rfl)
theorem dX4_make_28 : decode cX4_make 28 = .ok (.aload_n 0, 1) := dk_42 (dk_at dksX4_make_1 6 rfl rfl)
theorem dX4_make_29 : decode cX4_make 29 = .ok (.getfield 10, 3) := dk_180 0 10 (dk_at dksX4_make_1 7 rfl rfl)
theorem dX4_make_32 : decode cX4_make 32 = .ok (.aload 4, 2) := dk_25 4 (dk_at dksX4_make_1 10 rfl rfl)
theorem dX4_make_34 : decode cX4_make 34 = .ok (.invokeinterface 33 2, 5) := by decide +kernel
theorem dX4_make_39 : decode cX4_make 39 = .ok (.pop, 1) := dk_87 (dk_at dksX4_make_1 17 rfl rfl)
theorem dX4_make_40 : decode cX4_make 40 = .ok (.return_, 1) := dk_177 (dk_at dksX4_make_1 18 rfl rfl)
theorem dX4_make_41 : decode cX4_make 41 = .ok (.iconst 0, 1) := dk_3 (dk_at dksX4_make_1 19 rfl rfl)
theorem dX4_make_42 : decode cX4_make 42 = .ok (.istore 4, 2) := dk_54 4 (dk_at dksX4_make_1 20 rfl rfl)
theorem dX4_make_44 : decode cX4_make 44 = .ok (.iload 4, 2) := dk_21 4 (dk_at dksX4_make_1 22 rfl rfl)
theorem dX4_make_46 : decode cX4_make 46 = .ok (.aload_n 0, 1) := dk_42 (dk_at dksX4_make_2 0 rfl rfl)
theorem dX4_make_47 : decode cX4_make 47 = .ok (.getfield 20, 3) := dk_180 0 20 (dk_at dksX4_make_2 1 rfl rfl)
theorem dX4_make_50 : decode cX4_make 50 = .ok (.if_icmp .gt 101, 3) := dk_163 0 101 (dk_at dksX4_make_2 4 rfl rfl)
theorem dX4_make_53 : decode cX4_make 53 = .ok (.aload_n 0, 1) := dk_42 (dk_at dksX4_make_2 7 rfl rfl)
theorem dX4_make_54 : decode cX4_make 54 = .ok (.getfield 16, 3) := dk_180 0 16 (dk_at dksX4_make_2 8 rfl rfl)
theorem dX4_make_57 : decode cX4_make 57 = .ok (.iload_n 1, 1) := dk_27 (dk_at dksX4_make_2 11 rfl rfl)
theorem dX4_make_58 : decode cX4_make 58 = .ok (.isub, 1) := dk_100 (dk_at dksX4_make_2 12 rfl rfl)
theorem dX4_make_59 : decode cX4_make 59 = .ok (.aload_n 0, 1) := dk_42 (dk_at dksX4_make_2 13 rfl rfl)
theorem dX4_make_60 : decode cX4_make 60 = .ok (.getfield 20, 3) := dk_180 0 20 (dk_at dksX4_make_2 14 rfl rfl)
theorem dX4_make_63 : decode cX4_make 63 = .ok (.iload_n 2, 1) := dk_28 (dk_at dksX4_make_2 17 rfl rfl)
theorem dX4_make_64 : decode cX4_make 64 = .ok (.invokestatic 39, 3) := dk_184 0 39 (dk_at dksX4_make_2 18 rfl rfl)
theorem dX4_make_67 : decode cX4_make 67 = .ok (.isub, 1) := dk_100 (dk_at dksX4_make_2 21 rfl rfl)
theorem dX4_make_68 : decode cX4_make 68 = .ok (.if_icmp .le 7, 3) := dk_164 0 7 (dk_at dksX4_make_3 0 rfl rfl)
theorem dX4_make_71 : decode cX4_make 71 = .ok (.iconst 1, 1) := dk_4 (dk_at dksX4_make_3 3 rfl rfl)
theorem dX4_make_72 : decode cX4_make 72 = .ok (.goto 4, 3) := dk_167 0 4 (dk_at dksX4_make_3 4 rfl rfl)
theorem dX4_make_75 : decode cX4_make 75 = .ok (.iconst 0, 1) := dk_3 (dk_at dksX4_make_3 7 rfl rfl)
theorem dX4_make_76 : decode cX4_make 76 = .ok (.istore 5, 2) := dk_54 5 (dk_at dksX4_make_3 8 rfl rfl)
theorem dX4_make_78 : decode cX4_make 78 = .ok (.iload 4, 2) := dk_21 4 (dk_at dksX4_make_3 10 rfl rfl)
theorem dX4_make_80 : decode cX4_make 80 = .ok (.aload_n 0, 1) := dk_42 (dk_at dksX4_make_3 12 rfl rfl)
theorem dX4_make_81 : decode cX4_make 81 = .ok (.getfield 20, 3) := dk_180 0 20 (dk_at dksX4_make_3 13 rfl rfl)
theorem dX4_make_84 : decode cX4_make 84 = .ok (.if_icmp .ne 8, 3) := dk_160 0 8 (dk_at dksX4_make_3 16 rfl rfl)
theorem dX4_make_87 : decode cX4_make 87 = .ok (.iload 5, 2) := dk_21 5 (dk_at dksX4_make_3 19 rfl rfl)
theorem dX4_make_89 : decode cX4_make 89 = .ok (.goto 17, 3) := dk_167 0 17 (dk_at dksX4_make_3 21 rfl rfl)
theorem dX4_make_92 : decode cX4_make 92 = .ok (.iload_n 2, 1) := dk_28 (dk_at dksX4_make_4 0 rfl rfl)
theorem dX4_make_93 : decode cX4_make 93 = .ok (.iload 4, 2) := dk_21 4 (dk_at dksX4_make_4 1 rfl rfl)
theorem dX4_make_95 : decode cX4_make 95 = .ok (.invokestatic 45, 3) := dk_184 0 45 (dk_at dksX4_make_4 3 rfl rfl)
theorem dX4_make_98 : decode cX4_make 98 = .ok (.ifCond .ne 7, 3) := dk_154 0 7 (dk_at dksX4_make_4 6 rfl rfl)
theorem dX4_make_101 : decode cX4_make 101 = .ok (.iconst 1, 1) := dk_4 (dk_at dksX4_make_4 9 rfl rfl)
theorem dX4_make_102 : decode cX4_make 102 = .ok (.goto 4, 3) := dk_167 0 4 (dk_at dksX4_make_4 10 rfl rfl)
theorem dX4_make_105 : decode cX4_make 105 = .ok (.iconst 0, 1) := dk_3 (dk_at dksX4_make_4 13 rfl rfl)
theorem dX4_make_106 : decode cX4_make 106 = .ok (.istore 6, 2) := dk_54 6 (dk_at dksX4_make_4 14 rfl rfl)
theorem dX4_make_108 : decode cX4_make 108 = .ok (.aload_n 3, 1) := dk_45 (dk_at dksX4_make_4 16 rfl rfl)
theorem dX4_make_109 : decode cX4_make 109 = .ok (.iload_n 1, 1) := dk_27 (dk_at dksX4_make_4 17 rfl rfl)
theorem dX4_make_110 : decode cX4_make 110 = .ok (.iload 4, 2) := dk_21 4 (dk_at dksX4_make_4 18 rfl rfl)
theorem dX4_make_112 : decode cX4_make 112 = .ok (.iastore, 1) := dk_79 (dk_at dksX4_make_4 20 rfl rfl)
theorem dX4_make_113 : decode cX4_make 113 = .ok (.iload 6, 2) := dk_21 6 (dk_at dksX4_make_4 21 rfl rfl)
theorem dX4_make_115 : decode cX4_make 115 = .ok (.ifCond .eq 30, 3) := dk_153 0 30 (dk_at dksX4_make_5 0 rfl rfl)
theorem dX4_make_118 : decode cX4_make 118 = .ok (.aload_n 0, 1) := dk_42 (dk_at dksX4_make_5 3 rfl rfl)
theorem dX4_make_119 : decode cX4_make 119 = .ok (.iload_n 1, 1) := dk_27 (dk_at dksX4_make_5 4 rfl rfl)
theorem dX4_make_120 : decode cX4_make 120 = .ok (.iconst 1, 1) := dk_4 (dk_at dksX4_make_5 5 rfl rfl)
theorem dX4_make_121 : decode cX4_make 121 = .ok (.iadd, 1) := dk_96 (dk_at dksX4_make_5 6 rfl rfl)
theorem dX4_make_122 : decode cX4_make 122 = .ok (.iload 4, 2) := dk_21 4 (dk_at dksX4_make_5 7 rfl rfl)
theorem dX4_make_124 : decode cX4_make 124 = .ok (.aload_n 0, 1) := dk_42 (dk_at dksX4_make_5 9 rfl rfl)
theorem dX4_make_125 : decode cX4_make 125 = .ok (.getfield 20, 3) := dk_180 0 20 (dk_at dksX4_make_5 10 rfl rfl)
theorem dX4_make_128 : decode cX4_make 128 = .ok (.if_icmp .ne 7, 3) := dk_160 0 7 (dk_at dksX4_make_5 13 rfl rfl)
theorem dX4_make_131 : decode cX4_make 131 = .ok (.iload_n 2, 1) := dk_28 (dk_at dksX4_make_5 16 rfl rfl)
theorem dX4_make_132 : decode cX4_make 132 = .ok (.goto 9, 3) := dk_167 0 9 (dk_at dksX4_make_5 17 rfl rfl)
theorem dX4_make_135 : decode cX4_make 135 = .ok (.iload_n 2, 1) := dk_28 (dk_at dksX4_make_5 20 rfl rfl)
theorem dX4_make_136 : decode cX4_make 136 = .ok (.iconst 1, 1) := dk_4 (dk_at dksX4_make_5 21 rfl rfl)
theorem dX4_make_137 : decode cX4_make 137 = .ok (.iload 4, 2) := dk_21 4 (dk_at dksX4_make_5 22 rfl rfl)
theorem dX4_make_139 : decode cX4_make 139 = .ok (.ishl, 1) := dk_120 (dk_at dksX4_make_6 0 rfl rfl)
theorem dX4_make_140 : decode cX4_make 140 = .ok (.ior, 1) := dk_128 (dk_at dksX4_make_6 1 rfl rfl)
theorem dX4_make_141 : decode cX4_make 141 = .ok (.aload_n 3, 1) := dk_45 (dk_at dksX4_make_6 2 rfl rfl)
theorem dX4_make_142 : decode cX4_make 142 = .ok (.invokevirtual 23, 3) := dk_182 0 23 (dk_at dksX4_make_6 3 rfl rfl)
theorem dX4_make_145 : decode cX4_make 145 = .ok (.iinc 4 1, 3) := dk_132 4 1 (dk_at dksX4_make_6 6 rfl rfl)
theorem dX4_make_148 : decode cX4_make 148 = .ok (.goto (-104), 3) := dk_167 255 152 (dk_at dksX4_make_6 9 rfl rfl)
theorem dX4_make_151 : decode cX4_make 151 = .ok (.return_, 1) := dk_177 (dk_at dksX4_make_6 12 rfl rfl)
abbrev cX4_count : ByteArray := prog_2_method_3_code
def yX4_count : MethodName := ⟨RX4, "count", "()I"⟩
def dkwX4_count_0 : List UInt8 := [42, 180, 0, 10, 185, 0, 51, 1, 0, 172]
abbrev dktX4_count_0 : List UInt8 := dkwX4_count_0 ++ []
theorem dksX4_count_0 : cX4_count.data.toList.drop 0 = dktX4_count_0 := by decide +kernel
theorem dX4_count_0 : decode cX4_count 0 = .ok (.aload_n 0, 1) := dk_42 (dk_at dksX4_count_0 0 rfl rfl)
theorem dX4_count_1 : decode cX4_count 1 = .ok (.getfield 10, 3) := dk_180 0 10 (dk_at dksX4_count_0 1 rfl rfl)
theorem dX4_count_4 : decode cX4_count 4 = .ok (.invokeinterface 51 1, 5) := by decide +kernel
theorem dX4_count_9 : decode cX4_count 9 = .ok (.ireturn, 1) := dk_172 (dk_at dksX4_count_0 9 rfl rfl)
abbrev cX4_at : ByteArray := prog_2_method_4_code
def yX4_at : MethodName := ⟨RX4, "at", "(I)[I"⟩
def dkwX4_at_0 : List UInt8 := [42, 180, 0, 10, 27, 185, 0, 55, 2, 0, 192, 0, 59, 176]
abbrev dktX4_at_0 : List UInt8 := dkwX4_at_0 ++ []
theorem dksX4_at_0 : cX4_at.data.toList.drop 0 = dktX4_at_0 := by decide +kernel
theorem dX4_at_0 : decode cX4_at 0 = .ok (.aload_n 0, 1) := dk_42 (dk_at dksX4_at_0 0 rfl rfl)
theorem dX4_at_1 : decode cX4_at 1 = .ok (.getfield 10, 3) := dk_180 0 10 (dk_at dksX4_at_0 1 rfl rfl)
theorem dX4_at_4 : decode cX4_at 4 = .ok (.iload_n 1, 1) := dk_27 (dk_at dksX4_at_0 4 rfl rfl)
theorem dX4_at_5 : decode cX4_at 5 = .ok (.invokeinterface 55 2, 5) := by decide +kernel
theorem dX4_at_10 : decode cX4_at 10 = .ok (.checkcast 59, 3) := dk_192 0 59 (dk_at dksX4_at_0 10 rfl rfl)
theorem dX4_at_13 : decode cX4_at 13 = .ok (.areturn, 1) := dk_176 (dk_at dksX4_at_0 13 rfl rfl)
abbrev cX4_iterator : ByteArray := prog_2_method_5_code
def yX4_iterator : MethodName := ⟨RX4, "iterator", "()Ljava/util/Iterator;"⟩
def dkwX4_iterator_0 : List UInt8 := [187, 0, 61, 89, 42, 183, 0, 63, 176]
abbrev dktX4_iterator_0 : List UInt8 := dkwX4_iterator_0 ++ []
theorem dksX4_iterator_0 : cX4_iterator.data.toList.drop 0 = dktX4_iterator_0 := by decide +kernel
theorem dX4_iterator_0 : decode cX4_iterator 0 = .ok (.new 61, 3) := dk_187 0 61 (dk_at dksX4_iterator_0 0 rfl rfl)
theorem dX4_iterator_3 : decode cX4_iterator 3 = .ok (.dup, 1) := dk_89 (dk_at dksX4_iterator_0 3 rfl rfl)
theorem dX4_iterator_4 : decode cX4_iterator 4 = .ok (.aload_n 0, 1) := dk_42 (dk_at dksX4_iterator_0 4 rfl rfl)
theorem dX4_iterator_5 : decode cX4_iterator 5 = .ok (.invokespecial 63, 3) := dk_183 0 63 (dk_at dksX4_iterator_0 5 rfl rfl)
theorem dX4_iterator_8 : decode cX4_iterator 8 = .ok (.areturn, 1) := dk_176 (dk_at dksX4_iterator_0 8 rfl rfl)
theorem q122 : (Jvm.Cond.initialized "EdgeLetters$Arrangements") ∈ lw_all := lw_g (lw_at lw_m1 4 rfl) rfl
theorem q184 : (Jvm.Cond.instantiable "EdgeLetters$Arrangements" (3 : Nat)) ∈ lw_all := lw_g (lw_at lw_m1 66 rfl) rfl
theorem q186 : (Jvm.Cond.instanceMethod ({ cls := "EdgeLetters$Arrangements", name := "<init>", desc := "(II)V" } : Jvm.MethodName)) ∈ lw_all := lw_g (lw_at lw_m1 68 rfl) rfl
theorem q187 : (Jvm.Cond.code ({ cls := "EdgeLetters$Arrangements", name := "<init>", desc := "(II)V" } : Jvm.MethodName) prog_2_method_1_code (3 : Nat) (Option.none : Option Jvm.ClassFile.FieldType)) ∈ lw_all := lw_g (lw_at lw_m1 69 rfl) rfl
theorem q188 : (Jvm.Cond.methodLink "EdgeLetters$Arrangements" (1 : Nat) ({ cls := "java/lang/Object", name := "<init>", desc := "()V" } : Jvm.MethodName)) ∈ lw_all := lw_g (lw_at lw_m1 70 rfl) rfl
theorem q189 : (Jvm.Cond.classLink "EdgeLetters$Arrangements" (7 : Nat) "java/util/ArrayList") ∈ lw_all := lw_g (lw_at lw_m1 71 rfl) rfl
theorem q191 : (Jvm.Cond.methodLink "EdgeLetters$Arrangements" (9 : Nat) ({ cls := "java/util/ArrayList", name := "<init>", desc := "()V" } : Jvm.MethodName)) ∈ lw_all := lw_g (lw_at lw_m1 73 rfl) rfl
theorem q216 : (Jvm.Cond.methodLink "EdgeLetters$Arrangements" (23 : Nat) ({ cls := "EdgeLetters$Arrangements", name := "make", desc := "(II[I)V" } : Jvm.MethodName)) ∈ lw_all := lw_g (lw_at lw_m1 98 rfl) rfl
theorem q217 : (Jvm.Cond.privateMethod ({ cls := "EdgeLetters$Arrangements", name := "make", desc := "(II[I)V" } : Jvm.MethodName)) ∈ lw_tbl := lw_at lw_m1 99 rfl
theorem q218 : (Jvm.Cond.instanceMethod ({ cls := "EdgeLetters$Arrangements", name := "make", desc := "(II[I)V" } : Jvm.MethodName)) ∈ lw_all := lw_g (lw_at lw_m1 100 rfl) rfl
theorem q219 : (Jvm.Cond.code ({ cls := "EdgeLetters$Arrangements", name := "make", desc := "(II[I)V" } : Jvm.MethodName) prog_2_method_2_code (7 : Nat) (Option.none : Option Jvm.ClassFile.FieldType)) ∈ lw_all := lw_g (lw_at lw_m1 101 rfl) rfl
theorem q220 : (Jvm.Cond.methodLink "EdgeLetters$Arrangements" (27 : Nat) ({ cls := "java/lang/System", name := "arraycopy", desc := "(Ljava/lang/Object;ILjava/lang/Object;II)V" } : Jvm.MethodName)) ∈ lw_all := lw_g (lw_at lw_m1 102 rfl) rfl
theorem q223 : (Jvm.Cond.interfaceEntry "EdgeLetters$Arrangements" (33 : Nat)) ∈ lw_tbl := lw_at lw_m1 105 rfl
theorem q224 : (Jvm.Cond.methodLink "EdgeLetters$Arrangements" (33 : Nat) ({ cls := "java/util/List", name := "add", desc := "(Ljava/lang/Object;)Z" } : Jvm.MethodName)) ∈ lw_all := lw_g (lw_at lw_m1 106 rfl) rfl
theorem q262 : (Jvm.Cond.selects "EdgeLetters$Arrangements" ({ cls := "java/lang/Object", name := "getClass", desc := "()Ljava/lang/Class;" } : Jvm.MethodName) ({ cls := "java/lang/Object", name := "getClass", desc := "()Ljava/lang/Class;" } : Jvm.MethodName)) ∈ lw_all := lw_g (lw_at lw_m1 144 rfl) rfl
theorem q291 : (Jvm.Cond.methodLink "EdgeLetters$Arrangements" (39 : Nat) ({ cls := "java/lang/Integer", name := "bitCount", desc := "(I)I" } : Jvm.MethodName)) ∈ lw_all := lw_g (lw_at lw_m1 173 rfl) rfl
theorem q297 : (Jvm.Cond.methodLinkNest "EdgeLetters$Arrangements" (45 : Nat) ({ cls := "EdgeLetters", name := "has", desc := "(II)Z" } : Jvm.MethodName) "EdgeLetters") ∈ lw_tbl := lw_at lw_m1 179 rfl
theorem q300 : (Jvm.Cond.fieldLink "EdgeLetters$Arrangements" (10 : Nat) "EdgeLetters$Arrangements" "all" "Ljava/util/List;") ∈ lw_all := lw_g (lw_at lw_m1 182 rfl) rfl
theorem q302 : (Jvm.Cond.fieldLink "EdgeLetters$Arrangements" (16 : Nat) "EdgeLetters$Arrangements" "side" "I") ∈ lw_all := lw_g (lw_at lw_m1 184 rfl) rfl
theorem q304 : (Jvm.Cond.fieldLink "EdgeLetters$Arrangements" (20 : Nat) "EdgeLetters$Arrangements" "letters" "I") ∈ lw_all := lw_g (lw_at lw_m1 186 rfl) rfl
theorem q306 : (Jvm.Cond.laysFinal "EdgeLetters$Arrangements" "EdgeLetters$Arrangements" "all" "Ljava/util/List;") ∈ lw_all := lw_g (lw_at lw_m1 188 rfl) rfl
theorem q307 : (Jvm.Cond.soleField "EdgeLetters$Arrangements" "all") ∈ lw_all := lw_g (lw_at lw_m1 189 rfl) rfl
theorem q308 : (Jvm.Cond.laysFinal "EdgeLetters$Arrangements" "EdgeLetters$Arrangements" "side" "I") ∈ lw_all := lw_g (lw_at lw_m1 190 rfl) rfl
theorem q309 : (Jvm.Cond.soleField "EdgeLetters$Arrangements" "side") ∈ lw_all := lw_g (lw_at lw_m1 191 rfl) rfl
theorem q310 : (Jvm.Cond.laysFinal "EdgeLetters$Arrangements" "EdgeLetters$Arrangements" "letters" "I") ∈ lw_all := lw_g (lw_at lw_m1 192 rfl) rfl
theorem q311 : (Jvm.Cond.soleField "EdgeLetters$Arrangements" "letters") ∈ lw_all := lw_g (lw_at lw_m1 193 rfl) rfl
theorem q312 : (Jvm.Cond.superclass "EdgeLetters$Arrangements" "java/lang/Object") ∈ lw_all := lw_g (lw_at lw_m1 194 rfl) rfl
theorem q628 : (Jvm.Cond.instanceMethod ({ cls := "EdgeLetters$Arrangements", name := "count", desc := "()I" } : Jvm.MethodName)) ∈ lw_all := lw_g (lw_at lw_m3 30 rfl) rfl
theorem q629 : (Jvm.Cond.selects "EdgeLetters$Arrangements" ({ cls := "EdgeLetters$Arrangements", name := "count", desc := "()I" } : Jvm.MethodName) ({ cls := "EdgeLetters$Arrangements", name := "count", desc := "()I" } : Jvm.MethodName)) ∈ lw_all := lw_g (lw_at lw_m3 31 rfl) rfl
theorem q630 : (Jvm.Cond.code ({ cls := "EdgeLetters$Arrangements", name := "count", desc := "()I" } : Jvm.MethodName) prog_2_method_3_code (1 : Nat) (Option.some Jvm.ClassFile.FieldType.int)) ∈ lw_all := lw_g (lw_at lw_m3 32 rfl) rfl
theorem q631 : (Jvm.Cond.interfaceEntry "EdgeLetters$Arrangements" (51 : Nat)) ∈ lw_tbl := lw_at lw_m3 33 rfl
theorem q632 : (Jvm.Cond.methodLink "EdgeLetters$Arrangements" (51 : Nat) ({ cls := "java/util/List", name := "size", desc := "()I" } : Jvm.MethodName)) ∈ lw_all := lw_g (lw_at lw_m3 34 rfl) rfl
theorem q634 : (Jvm.Cond.instanceMethod ({ cls := "EdgeLetters$Arrangements", name := "at", desc := "(I)[I" } : Jvm.MethodName)) ∈ lw_all := lw_g (lw_at lw_m3 36 rfl) rfl
theorem q635 : (Jvm.Cond.selects "EdgeLetters$Arrangements" ({ cls := "EdgeLetters$Arrangements", name := "at", desc := "(I)[I" } : Jvm.MethodName) ({ cls := "EdgeLetters$Arrangements", name := "at", desc := "(I)[I" } : Jvm.MethodName)) ∈ lw_all := lw_g (lw_at lw_m3 37 rfl) rfl
theorem q636 : (Jvm.Cond.code ({ cls := "EdgeLetters$Arrangements", name := "at", desc := "(I)[I" } : Jvm.MethodName) prog_2_method_4_code (2 : Nat) (Option.some (Jvm.ClassFile.FieldType.array Jvm.ClassFile.FieldType.int))) ∈ lw_all := lw_g (lw_at lw_m3 38 rfl) rfl
theorem q637 : (Jvm.Cond.interfaceEntry "EdgeLetters$Arrangements" (55 : Nat)) ∈ lw_tbl := lw_at lw_m3 39 rfl
theorem q638 : (Jvm.Cond.methodLink "EdgeLetters$Arrangements" (55 : Nat) ({ cls := "java/util/List", name := "get", desc := "(I)Ljava/lang/Object;" } : Jvm.MethodName)) ∈ lw_all := lw_g (lw_at lw_m3 40 rfl) rfl
theorem q650 : (Jvm.Cond.classLink "EdgeLetters$Arrangements" (59 : Nat) "[I") ∈ lw_all := lw_g (lw_at lw_m3 52 rfl) rfl
theorem q1524 : (Jvm.Cond.instanceMethod ({ cls := "EdgeLetters$Arrangements", name := "iterator", desc := "()Ljava/util/Iterator;" } : Jvm.MethodName)) ∈ lw_all := lw_g (lw_at lw_m6 206 rfl) rfl
theorem q1525 : (Jvm.Cond.selects "EdgeLetters$Arrangements" ({ cls := "EdgeLetters$Arrangements", name := "iterator", desc := "()Ljava/util/Iterator;" } : Jvm.MethodName) ({ cls := "EdgeLetters$Arrangements", name := "iterator", desc := "()Ljava/util/Iterator;" } : Jvm.MethodName)) ∈ lw_all := lw_g (lw_at lw_m6 207 rfl) rfl
theorem q1526 : (Jvm.Cond.code ({ cls := "EdgeLetters$Arrangements", name := "iterator", desc := "()Ljava/util/Iterator;" } : Jvm.MethodName) prog_2_method_5_code (1 : Nat) (Option.some (Jvm.ClassFile.FieldType.object "java/util/Iterator"))) ∈ lw_all := lw_g (lw_at lw_m6 208 rfl) rfl
theorem q1527 : (Jvm.Cond.classLink "EdgeLetters$Arrangements" (61 : Nat) "EdgeLetters$Arrangements$1") ∈ lw_all := lw_g (lw_at lw_m6 209 rfl) rfl
theorem q1529 : (Jvm.Cond.methodLink "EdgeLetters$Arrangements" (63 : Nat) ({ cls := "EdgeLetters$Arrangements$1", name := "<init>", desc := "(LEdgeLetters$Arrangements;)V" } : Jvm.MethodName)) ∈ lw_all := lw_g (lw_at lw_m6 211 rfl) rfl
theorem q2316 : (Jvm.Cond.castable "EdgeLetters$Arrangements" "java/lang/Object") ∈ lw_tbl := lw_at lw_m10 38 rfl
theorem in_X4 : ∀ w ∈ wsX40, w ∈ lw_all := lw_in wsX40 [306, 308, 310] (by decide +kernel) (by decide +kernel)
