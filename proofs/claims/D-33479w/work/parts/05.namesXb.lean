/-! EdgeLetters$Board -/
set_option maxRecDepth 100000
def RX5 : String := "EdgeLetters$Board"
def TX5 : u_T := fun k => match k with
  | 0 => ("EdgeLetters$Board", "puzzle", "LEdgeLetters$Puzzle;", true)
  | 1 => ("EdgeLetters$Board", "things", "[I", true)
  | _ => ("EdgeLetters$Board", "rowsBefore", "[[I", true)
def tyX5 : Nat → FieldType := fun k => match k with
  | 0 => .object "EdgeLetters$Puzzle"
  | 1 => .array .int
  | _ => .array (.array .int)
abbrev wsX50 : List Cond := u_ws RX5 TX5 3
theorem nmX5 : ∀ a, a < 3 → ∀ b, b < 3 → a ≠ b → (TX5 a).2.1 ≠ (TX5 b).2.1 := by decide +kernel
theorem tyX5_ok : ∀ k, k < 3 → parseFieldDescriptor (TX5 k).2.2.1 = some (tyX5 k) := by decide +kernel
abbrev cX5_init : ByteArray := prog_4_method_1_code
def yX5_init : MethodName := ⟨RX5, "<init>", "(LEdgeLetters$Puzzle;)V"⟩
def dkwX5_init_1 : List UInt8 := [181, 0, 20, 42, 182, 0, 24, 87, 177]
abbrev dktX5_init_1 : List UInt8 := dkwX5_init_1 ++ []
def dkwX5_init_0 : List UInt8 := [42, 183, 0, 3, 42, 16, 25, 188, 10, 181, 0, 9, 42, 8, 8, 197, 0, 15, 2, 181, 0, 17, 42, 43]
abbrev dktX5_init_0 : List UInt8 := dkwX5_init_0 ++ dktX5_init_1
theorem dksX5_init_0 : cX5_init.data.toList.drop 0 = dktX5_init_0 := by decide +kernel
theorem dksX5_init_1 : cX5_init.data.toList.drop 24 = dktX5_init_1 := dk_seg dksX5_init_0 24 rfl rfl
theorem dX5_init_0 : decode cX5_init 0 = .ok (.aload_n 0, 1) := dk_42 (dk_at dksX5_init_0 0 rfl rfl)
theorem dX5_init_1 : decode cX5_init 1 = .ok (.invokespecial 3, 3) := dk_183 0 3 (dk_at dksX5_init_0 1 rfl rfl)
theorem dX5_init_4 : decode cX5_init 4 = .ok (.aload_n 0, 1) := dk_42 (dk_at dksX5_init_0 4 rfl rfl)
theorem dX5_init_5 : decode cX5_init 5 = .ok (.bipush 25, 2) := dk_16 25 (dk_at dksX5_init_0 5 rfl rfl)
theorem dX5_init_7 : decode cX5_init 7 = .ok (.newarray .int, 2) := dk_188_10 (dk_at dksX5_init_0 7 rfl rfl)
theorem dX5_init_9 : decode cX5_init 9 = .ok (.putfield 9, 3) := dk_181 0 9 (dk_at dksX5_init_0 9 rfl rfl)
theorem dX5_init_12 : decode cX5_init 12 = .ok (.aload_n 0, 1) := dk_42 (dk_at dksX5_init_0 12 rfl rfl)
theorem dX5_init_13 : decode cX5_init 13 = .ok (.iconst 5, 1) := dk_8 (dk_at dksX5_init_0 13 rfl rfl)
theorem dX5_init_14 : decode cX5_init 14 = .ok (.iconst 5, 1) := dk_8 (dk_at dksX5_init_0 14 rfl rfl)
theorem dX5_init_15 : decode cX5_init 15 = .ok (.multianewarray 15 2, 4) := by decide +kernel
theorem dX5_init_19 : decode cX5_init 19 = .ok (.putfield 17, 3) := dk_181 0 17 (dk_at dksX5_init_0 19 rfl rfl)
theorem dX5_init_22 : decode cX5_init 22 = .ok (.aload_n 0, 1) := dk_42 (dk_at dksX5_init_0 22 rfl rfl)
theorem dX5_init_23 : decode cX5_init 23 = .ok (.aload_n 1, 1) := dk_43 (dk_at dksX5_init_0 23 rfl rfl)
theorem dX5_init_24 : decode cX5_init 24 = .ok (.putfield 20, 3) := dk_181 0 20 (dk_at dksX5_init_1 0 rfl rfl)
theorem dX5_init_27 : decode cX5_init 27 = .ok (.aload_n 0, 1) := dk_42 (dk_at dksX5_init_1 3 rfl rfl)
theorem dX5_init_28 : decode cX5_init 28 = .ok (.invokevirtual 24, 3) := dk_182 0 24 (dk_at dksX5_init_1 4 rfl rfl)
theorem dX5_init_31 : decode cX5_init 31 = .ok (.pop, 1) := dk_87 (dk_at dksX5_init_1 7 rfl rfl)
theorem dX5_init_32 : decode cX5_init 32 = .ok (.return_, 1) := dk_177 (dk_at dksX5_init_1 8 rfl rfl)
abbrev cX5_clear : ByteArray := prog_4_method_3_code
def yX5_clear : MethodName := ⟨RX5, "clear", "()I"⟩
def dkwX5_clear_2 : List UInt8 := [132, 2, 1, 167, 255, 211, 27, 172]
abbrev dktX5_clear_2 : List UInt8 := dkwX5_clear_2 ++ []
def dkwX5_clear_1 : List UInt8 := [182, 0, 37, 160, 0, 7, 3, 167, 0, 4, 4, 96, 60, 42, 180, 0, 9, 28, 42, 182, 0, 37, 79]
abbrev dktX5_clear_1 : List UInt8 := dkwX5_clear_1 ++ dktX5_clear_2
def dkwX5_clear_0 : List UInt8 := [3, 60, 3, 61, 28, 42, 180, 0, 20, 182, 0, 34, 162, 0, 40, 27, 42, 180, 0, 9, 28, 46, 42]
abbrev dktX5_clear_0 : List UInt8 := dkwX5_clear_0 ++ dktX5_clear_1
theorem dksX5_clear_0 : cX5_clear.data.toList.drop 0 = dktX5_clear_0 := by decide +kernel
theorem dksX5_clear_1 : cX5_clear.data.toList.drop 23 = dktX5_clear_1 := dk_seg dksX5_clear_0 23 rfl rfl
theorem dksX5_clear_2 : cX5_clear.data.toList.drop 46 = dktX5_clear_2 := dk_seg dksX5_clear_1 23 rfl rfl
theorem dX5_clear_0 : decode cX5_clear 0 = .ok (.iconst 0, 1) := dk_3 (dk_at dksX5_clear_0 0 rfl rfl)
theorem dX5_clear_1 : decode cX5_clear 1 = .ok (.istore_n 1, 1) := dk_60 (dk_at dksX5_clear_0 1 rfl rfl)
theorem dX5_clear_2 : decode cX5_clear 2 = .ok (.iconst 0, 1) := dk_3 (dk_at dksX5_clear_0 2 rfl rfl)
theorem dX5_clear_3 : decode cX5_clear 3 = .ok (.istore_n 2, 1) := dk_61 (dk_at dksX5_clear_0 3 rfl rfl)
theorem dX5_clear_4 : decode cX5_clear 4 = .ok (.iload_n 2, 1) := dk_28 (dk_at dksX5_clear_0 4 rfl rfl)
theorem dX5_clear_5 : decode cX5_clear 5 = .ok (.aload_n 0, 1) := dk_42 (dk_at dksX5_clear_0 5 rfl rfl)
theorem dX5_clear_6 : decode cX5_clear 6 = .ok (.getfield 20, 3) := dk_180 0 20 (dk_at dksX5_clear_0 6 rfl rfl)
theorem dX5_clear_9 : decode cX5_clear 9 = .ok (.invokevirtual 34, 3) := dk_182 0 34 (dk_at dksX5_clear_0 9 rfl rfl)
theorem dX5_clear_12 : decode cX5_clear 12 = .ok (.if_icmp .ge 40, 3) := dk_162 0 40 (dk_at dksX5_clear_0 12 rfl rfl)
theorem dX5_clear_15 : decode cX5_clear 15 = .ok (.iload_n 1, 1) := dk_27 (dk_at dksX5_clear_0 15 rfl rfl)
theorem dX5_clear_16 : decode cX5_clear 16 = .ok (.aload_n 0, 1) := dk_42 (dk_at dksX5_clear_0 16 rfl rfl)
theorem dX5_clear_17 : decode cX5_clear 17 = .ok (.getfield 9, 3) := dk_180 0 9 (dk_at dksX5_clear_0 17 rfl rfl)
theorem dX5_clear_20 : decode cX5_clear 20 = .ok (.iload_n 2, 1) := dk_28 (dk_at dksX5_clear_0 20 rfl rfl)
theorem dX5_clear_21 : decode cX5_clear 21 = .ok (.iaload, 1) := dk_46 (dk_at dksX5_clear_0 21 rfl rfl)
theorem dX5_clear_22 : decode cX5_clear 22 = .ok (.aload_n 0, 1) := dk_42 (dk_at dksX5_clear_0 22 rfl rfl)
theorem dX5_clear_23 : decode cX5_clear 23 = .ok (.invokevirtual 37, 3) := dk_182 0 37 (dk_at dksX5_clear_1 0 rfl rfl)
theorem dX5_clear_26 : decode cX5_clear 26 = .ok (.if_icmp .ne 7, 3) := dk_160 0 7 (dk_at dksX5_clear_1 3 rfl rfl)
theorem dX5_clear_29 : decode cX5_clear 29 = .ok (.iconst 0, 1) := dk_3 (dk_at dksX5_clear_1 6 rfl rfl)
theorem dX5_clear_30 : decode cX5_clear 30 = .ok (.goto 4, 3) := dk_167 0 4 (dk_at dksX5_clear_1 7 rfl rfl)
theorem dX5_clear_33 : decode cX5_clear 33 = .ok (.iconst 1, 1) := dk_4 (dk_at dksX5_clear_1 10 rfl rfl)
theorem dX5_clear_34 : decode cX5_clear 34 = .ok (.iadd, 1) := dk_96 (dk_at dksX5_clear_1 11 rfl rfl)
theorem dX5_clear_35 : decode cX5_clear 35 = .ok (.istore_n 1, 1) := dk_60 (dk_at dksX5_clear_1 12 rfl rfl)
theorem dX5_clear_36 : decode cX5_clear 36 = .ok (.aload_n 0, 1) := dk_42 (dk_at dksX5_clear_1 13 rfl rfl)
theorem dX5_clear_37 : decode cX5_clear 37 = .ok (.getfield 9, 3) := dk_180 0 9 (dk_at dksX5_clear_1 14 rfl rfl)
theorem dX5_clear_40 : decode cX5_clear 40 = .ok (.iload_n 2, 1) := dk_28 (dk_at dksX5_clear_1 17 rfl rfl)
theorem dX5_clear_41 : decode cX5_clear 41 = .ok (.aload_n 0, 1) := dk_42 (dk_at dksX5_clear_1 18 rfl rfl)
theorem dX5_clear_42 : decode cX5_clear 42 = .ok (.invokevirtual 37, 3) := dk_182 0 37 (dk_at dksX5_clear_1 19 rfl rfl)
theorem dX5_clear_45 : decode cX5_clear 45 = .ok (.iastore, 1) := dk_79 (dk_at dksX5_clear_1 22 rfl rfl)
theorem dX5_clear_46 : decode cX5_clear 46 = .ok (.iinc 2 1, 3) := dk_132 2 1 (dk_at dksX5_clear_2 0 rfl rfl)
theorem dX5_clear_49 : decode cX5_clear 49 = .ok (.goto (-45), 3) := dk_167 255 211 (dk_at dksX5_clear_2 3 rfl rfl)
theorem dX5_clear_52 : decode cX5_clear 52 = .ok (.iload_n 1, 1) := dk_27 (dk_at dksX5_clear_2 6 rfl rfl)
theorem dX5_clear_53 : decode cX5_clear 53 = .ok (.ireturn, 1) := dk_172 (dk_at dksX5_clear_2 7 rfl rfl)
abbrev cX5_everything : ByteArray := prog_4_method_2_code
def yX5_everything : MethodName := ⟨RX5, "everything", "()I"⟩
def dkwX5_everything_0 : List UInt8 := [4, 42, 180, 0, 20, 180, 0, 28, 4, 96, 120, 4, 100, 172]
abbrev dktX5_everything_0 : List UInt8 := dkwX5_everything_0 ++ []
theorem dksX5_everything_0 : cX5_everything.data.toList.drop 0 = dktX5_everything_0 := by decide +kernel
theorem dX5_everything_0 : decode cX5_everything 0 = .ok (.iconst 1, 1) := dk_4 (dk_at dksX5_everything_0 0 rfl rfl)
theorem dX5_everything_1 : decode cX5_everything 1 = .ok (.aload_n 0, 1) := dk_42 (dk_at dksX5_everything_0 1 rfl rfl)
theorem dX5_everything_2 : decode cX5_everything 2 = .ok (.getfield 20, 3) := dk_180 0 20 (dk_at dksX5_everything_0 2 rfl rfl)
theorem dX5_everything_5 : decode cX5_everything 5 = .ok (.getfield 28, 3) := dk_180 0 28 (dk_at dksX5_everything_0 5 rfl rfl)
theorem dX5_everything_8 : decode cX5_everything 8 = .ok (.iconst 1, 1) := dk_4 (dk_at dksX5_everything_0 8 rfl rfl)
theorem dX5_everything_9 : decode cX5_everything 9 = .ok (.iadd, 1) := dk_96 (dk_at dksX5_everything_0 9 rfl rfl)
theorem dX5_everything_10 : decode cX5_everything 10 = .ok (.ishl, 1) := dk_120 (dk_at dksX5_everything_0 10 rfl rfl)
theorem dX5_everything_11 : decode cX5_everything 11 = .ok (.iconst 1, 1) := dk_4 (dk_at dksX5_everything_0 11 rfl rfl)
theorem dX5_everything_12 : decode cX5_everything 12 = .ok (.isub, 1) := dk_100 (dk_at dksX5_everything_0 12 rfl rfl)
theorem dX5_everything_13 : decode cX5_everything 13 = .ok (.ireturn, 1) := dk_172 (dk_at dksX5_everything_0 13 rfl rfl)
abbrev cX5_setThings : ByteArray := prog_4_method_4_code
def yX5_setThings : MethodName := ⟨RX5, "setThings", "(LEdgeLetters$Board;)V"⟩
def dkwX5_setThings_0 : List UInt8 := [43, 180, 0, 9, 3, 42, 180, 0, 9, 3, 16, 25, 184, 0, 40, 177]
abbrev dktX5_setThings_0 : List UInt8 := dkwX5_setThings_0 ++ []
theorem dksX5_setThings_0 : cX5_setThings.data.toList.drop 0 = dktX5_setThings_0 := by decide +kernel
theorem dX5_setThings_0 : decode cX5_setThings 0 = .ok (.aload_n 1, 1) := dk_43 (dk_at dksX5_setThings_0 0 rfl rfl)
theorem dX5_setThings_1 : decode cX5_setThings 1 = .ok (.getfield 9, 3) := dk_180 0 9 (dk_at dksX5_setThings_0 1 rfl rfl)
theorem dX5_setThings_4 : decode cX5_setThings 4 = .ok (.iconst 0, 1) := dk_3 (dk_at dksX5_setThings_0 4 rfl rfl)
theorem dX5_setThings_5 : decode cX5_setThings 5 = .ok (.aload_n 0, 1) := dk_42 (dk_at dksX5_setThings_0 5 rfl rfl)
theorem dX5_setThings_6 : decode cX5_setThings 6 = .ok (.getfield 9, 3) := dk_180 0 9 (dk_at dksX5_setThings_0 6 rfl rfl)
theorem dX5_setThings_9 : decode cX5_setThings 9 = .ok (.iconst 0, 1) := dk_3 (dk_at dksX5_setThings_0 9 rfl rfl)
theorem dX5_setThings_10 : decode cX5_setThings 10 = .ok (.bipush 25, 2) := dk_16 25 (dk_at dksX5_setThings_0 10 rfl rfl)
theorem dX5_setThings_12 : decode cX5_setThings 12 = .ok (.invokestatic 40, 3) := dk_184 0 40 (dk_at dksX5_setThings_0 12 rfl rfl)
theorem dX5_setThings_15 : decode cX5_setThings 15 = .ok (.return_, 1) := dk_177 (dk_at dksX5_setThings_0 15 rfl rfl)
abbrev cX5_isSettled : ByteArray := prog_4_method_5_code
def yX5_isSettled : MethodName := ⟨RX5, "isSettled", "(I)Z"⟩
def dkwX5_isSettled_0 : List UInt8 := [42, 180, 0, 9, 27, 46, 184, 0, 46, 172]
abbrev dktX5_isSettled_0 : List UInt8 := dkwX5_isSettled_0 ++ []
theorem dksX5_isSettled_0 : cX5_isSettled.data.toList.drop 0 = dktX5_isSettled_0 := by decide +kernel
theorem dX5_isSettled_0 : decode cX5_isSettled 0 = .ok (.aload_n 0, 1) := dk_42 (dk_at dksX5_isSettled_0 0 rfl rfl)
theorem dX5_isSettled_1 : decode cX5_isSettled 1 = .ok (.getfield 9, 3) := dk_180 0 9 (dk_at dksX5_isSettled_0 1 rfl rfl)
theorem dX5_isSettled_4 : decode cX5_isSettled 4 = .ok (.iload_n 1, 1) := dk_27 (dk_at dksX5_isSettled_0 4 rfl rfl)
theorem dX5_isSettled_5 : decode cX5_isSettled 5 = .ok (.iaload, 1) := dk_46 (dk_at dksX5_isSettled_0 5 rfl rfl)
theorem dX5_isSettled_6 : decode cX5_isSettled 6 = .ok (.invokestatic 46, 3) := dk_184 0 46 (dk_at dksX5_isSettled_0 6 rfl rfl)
theorem dX5_isSettled_9 : decode cX5_isSettled 9 = .ok (.ireturn, 1) := dk_172 (dk_at dksX5_isSettled_0 9 rfl rfl)
abbrev cX5_isBroken : ByteArray := prog_4_method_13_code
def yX5_isBroken : MethodName := ⟨RX5, "isBroken", "()Z"⟩
def dkwX5_isBroken_1 : List UInt8 := [132, 1, 1, 167, 255, 232, 3, 172]
abbrev dktX5_isBroken_1 : List UInt8 := dkwX5_isBroken_1 ++ []
def dkwX5_isBroken_0 : List UInt8 := [3, 60, 27, 42, 180, 0, 20, 182, 0, 111, 162, 0, 19, 42, 27, 182, 0, 114, 153, 0, 5, 4, 172]
abbrev dktX5_isBroken_0 : List UInt8 := dkwX5_isBroken_0 ++ dktX5_isBroken_1
theorem dksX5_isBroken_0 : cX5_isBroken.data.toList.drop 0 = dktX5_isBroken_0 := by decide +kernel
theorem dksX5_isBroken_1 : cX5_isBroken.data.toList.drop 23 = dktX5_isBroken_1 := dk_seg dksX5_isBroken_0 23 rfl rfl
theorem dX5_isBroken_0 : decode cX5_isBroken 0 = .ok (.iconst 0, 1) := dk_3 (dk_at dksX5_isBroken_0 0 rfl rfl)
theorem dX5_isBroken_1 : decode cX5_isBroken 1 = .ok (.istore_n 1, 1) := dk_60 (dk_at dksX5_isBroken_0 1 rfl rfl)
theorem dX5_isBroken_2 : decode cX5_isBroken 2 = .ok (.iload_n 1, 1) := dk_27 (dk_at dksX5_isBroken_0 2 rfl rfl)
theorem dX5_isBroken_3 : decode cX5_isBroken 3 = .ok (.aload_n 0, 1) := dk_42 (dk_at dksX5_isBroken_0 3 rfl rfl)
theorem dX5_isBroken_4 : decode cX5_isBroken 4 = .ok (.getfield 20, 3) := dk_180 0 20 (dk_at dksX5_isBroken_0 4 rfl rfl)
theorem dX5_isBroken_7 : decode cX5_isBroken 7 = .ok (.invokevirtual 111, 3) := dk_182 0 111 (dk_at dksX5_isBroken_0 7 rfl rfl)
theorem dX5_isBroken_10 : decode cX5_isBroken 10 = .ok (.if_icmp .ge 19, 3) := dk_162 0 19 (dk_at dksX5_isBroken_0 10 rfl rfl)
theorem dX5_isBroken_13 : decode cX5_isBroken 13 = .ok (.aload_n 0, 1) := dk_42 (dk_at dksX5_isBroken_0 13 rfl rfl)
theorem dX5_isBroken_14 : decode cX5_isBroken 14 = .ok (.iload_n 1, 1) := dk_27 (dk_at dksX5_isBroken_0 14 rfl rfl)
theorem dX5_isBroken_15 : decode cX5_isBroken 15 = .ok (.invokevirtual 114, 3) := dk_182 0 114 (dk_at dksX5_isBroken_0 15 rfl rfl)
theorem dX5_isBroken_18 : decode cX5_isBroken 18 = .ok (.ifCond .eq 5, 3) := dk_153 0 5 (dk_at dksX5_isBroken_0 18 rfl rfl)
theorem dX5_isBroken_21 : decode cX5_isBroken 21 = .ok (.iconst 1, 1) := dk_4 (dk_at dksX5_isBroken_0 21 rfl rfl)
theorem dX5_isBroken_22 : decode cX5_isBroken 22 = .ok (.ireturn, 1) := dk_172 (dk_at dksX5_isBroken_0 22 rfl rfl)
theorem dX5_isBroken_23 : decode cX5_isBroken 23 = .ok (.iinc 1 1, 3) := dk_132 1 1 (dk_at dksX5_isBroken_1 0 rfl rfl)
theorem dX5_isBroken_26 : decode cX5_isBroken 26 = .ok (.goto (-24), 3) := dk_167 255 232 (dk_at dksX5_isBroken_1 3 rfl rfl)
theorem dX5_isBroken_29 : decode cX5_isBroken 29 = .ok (.iconst 0, 1) := dk_3 (dk_at dksX5_isBroken_1 6 rfl rfl)
theorem dX5_isBroken_30 : decode cX5_isBroken 30 = .ok (.ireturn, 1) := dk_172 (dk_at dksX5_isBroken_1 7 rfl rfl)
abbrev cX5_isLineBroken : ByteArray := prog_4_method_8_code
def yX5_isLineBroken : MethodName := ⟨RX5, "isLineBroken", "(I)Z"⟩
def dkwX5_isLineBroken_1 : List UInt8 := [180, 0, 64, 28, 182, 0, 91, 182, 0, 85, 153, 0, 5, 3, 172, 132, 2, 1, 167, 255, 218, 4, 172]
abbrev dktX5_isLineBroken_1 : List UInt8 := dkwX5_isLineBroken_1 ++ []
def dkwX5_isLineBroken_0 : List UInt8 := [3, 61, 28, 42, 180, 0, 20, 180, 0, 64, 182, 0, 88, 162, 0, 30, 42, 27, 42, 180, 0, 20]
abbrev dktX5_isLineBroken_0 : List UInt8 := dkwX5_isLineBroken_0 ++ dktX5_isLineBroken_1
theorem dksX5_isLineBroken_0 : cX5_isLineBroken.data.toList.drop 0 = dktX5_isLineBroken_0 := by decide +kernel
theorem dksX5_isLineBroken_1 : cX5_isLineBroken.data.toList.drop 22 = dktX5_isLineBroken_1 := dk_seg dksX5_isLineBroken_0 22 rfl rfl
theorem dX5_isLineBroken_0 : decode cX5_isLineBroken 0 = .ok (.iconst 0, 1) := dk_3 (dk_at dksX5_isLineBroken_0 0 rfl rfl)
theorem dX5_isLineBroken_1 : decode cX5_isLineBroken 1 = .ok (.istore_n 2, 1) := dk_61 (dk_at dksX5_isLineBroken_0 1 rfl rfl)
theorem dX5_isLineBroken_2 : decode cX5_isLineBroken 2 = .ok (.iload_n 2, 1) := dk_28 (dk_at dksX5_isLineBroken_0 2 rfl rfl)
theorem dX5_isLineBroken_3 : decode cX5_isLineBroken 3 = .ok (.aload_n 0, 1) := dk_42 (dk_at dksX5_isLineBroken_0 3 rfl rfl)
theorem dX5_isLineBroken_4 : decode cX5_isLineBroken 4 = .ok (.getfield 20, 3) := dk_180 0 20 (dk_at dksX5_isLineBroken_0 4 rfl rfl)
theorem dX5_isLineBroken_7 : decode cX5_isLineBroken 7 = .ok (.getfield 64, 3) := dk_180 0 64 (dk_at dksX5_isLineBroken_0 7 rfl rfl)
theorem dX5_isLineBroken_10 : decode cX5_isLineBroken 10 = .ok (.invokevirtual 88, 3) := dk_182 0 88 (dk_at dksX5_isLineBroken_0 10 rfl rfl)
theorem dX5_isLineBroken_13 : decode cX5_isLineBroken 13 = .ok (.if_icmp .ge 30, 3) := dk_162 0 30 (dk_at dksX5_isLineBroken_0 13 rfl rfl)
theorem dX5_isLineBroken_16 : decode cX5_isLineBroken 16 = .ok (.aload_n 0, 1) := dk_42 (dk_at dksX5_isLineBroken_0 16 rfl rfl)
theorem dX5_isLineBroken_17 : decode cX5_isLineBroken 17 = .ok (.iload_n 1, 1) := dk_27 (dk_at dksX5_isLineBroken_0 17 rfl rfl)
theorem dX5_isLineBroken_18 : decode cX5_isLineBroken 18 = .ok (.aload_n 0, 1) := dk_42 (dk_at dksX5_isLineBroken_0 18 rfl rfl)
theorem dX5_isLineBroken_19 : decode cX5_isLineBroken 19 = .ok (.getfield 20, 3) := dk_180 0 20 (dk_at dksX5_isLineBroken_0 19 rfl rfl)
theorem dX5_isLineBroken_22 : decode cX5_isLineBroken 22 = .ok (.getfield 64, 3) := dk_180 0 64 (dk_at dksX5_isLineBroken_1 0 rfl rfl)
theorem dX5_isLineBroken_25 : decode cX5_isLineBroken 25 = .ok (.iload_n 2, 1) := dk_28 (dk_at dksX5_isLineBroken_1 3 rfl rfl)
theorem dX5_isLineBroken_26 : decode cX5_isLineBroken 26 = .ok (.invokevirtual 91, 3) := dk_182 0 91 (dk_at dksX5_isLineBroken_1 4 rfl rfl)
theorem dX5_isLineBroken_29 : decode cX5_isLineBroken 29 = .ok (.invokevirtual 85, 3) := dk_182 0 85 (dk_at dksX5_isLineBroken_1 7 rfl rfl)
theorem dX5_isLineBroken_32 : decode cX5_isLineBroken 32 = .ok (.ifCond .eq 5, 3) := dk_153 0 5 (dk_at dksX5_isLineBroken_1 10 rfl rfl)
theorem dX5_isLineBroken_35 : decode cX5_isLineBroken 35 = .ok (.iconst 0, 1) := dk_3 (dk_at dksX5_isLineBroken_1 13 rfl rfl)
theorem dX5_isLineBroken_36 : decode cX5_isLineBroken 36 = .ok (.ireturn, 1) := dk_172 (dk_at dksX5_isLineBroken_1 14 rfl rfl)
theorem dX5_isLineBroken_37 : decode cX5_isLineBroken 37 = .ok (.iinc 2 1, 3) := dk_132 2 1 (dk_at dksX5_isLineBroken_1 15 rfl rfl)
theorem dX5_isLineBroken_40 : decode cX5_isLineBroken 40 = .ok (.goto (-38), 3) := dk_167 255 218 (dk_at dksX5_isLineBroken_1 18 rfl rfl)
theorem dX5_isLineBroken_43 : decode cX5_isLineBroken 43 = .ok (.iconst 1, 1) := dk_4 (dk_at dksX5_isLineBroken_1 21 rfl rfl)
theorem dX5_isLineBroken_44 : decode cX5_isLineBroken 44 = .ok (.ireturn, 1) := dk_172 (dk_at dksX5_isLineBroken_1 22 rfl rfl)
abbrev cX5_canHave : ByteArray := prog_4_method_6_code
def yX5_canHave : MethodName := ⟨RX5, "canHave", "(I[I)Z"⟩
def dkwX5_canHave_2 : List UInt8 := [132, 4, 1, 167, 255, 220, 42, 180, 0, 20, 27, 44, 182, 0, 60, 172]
abbrev dktX5_canHave_2 : List UInt8 := dkwX5_canHave_2 ++ []
def dkwX5_canHave_1 : List UInt8 := [162, 0, 30, 42, 180, 0, 9, 45, 21, 4, 46, 46, 44, 21, 4, 46, 184, 0, 56, 154, 0, 5, 3, 172]
abbrev dktX5_canHave_1 : List UInt8 := dkwX5_canHave_1 ++ dktX5_canHave_2
def dkwX5_canHave_0 : List UInt8 := [42, 180, 0, 20, 180, 0, 50, 27, 50, 78, 3, 54, 4, 21, 4, 42, 180, 0, 20, 180, 0, 53]
abbrev dktX5_canHave_0 : List UInt8 := dkwX5_canHave_0 ++ dktX5_canHave_1
theorem dksX5_canHave_0 : cX5_canHave.data.toList.drop 0 = dktX5_canHave_0 := by decide +kernel
theorem dksX5_canHave_1 : cX5_canHave.data.toList.drop 22 = dktX5_canHave_1 := dk_seg dksX5_canHave_0 22 rfl rfl
theorem dksX5_canHave_2 : cX5_canHave.data.toList.drop 46 = dktX5_canHave_2 := dk_seg dksX5_canHave_1 24 rfl rfl
theorem dX5_canHave_0 : decode cX5_canHave 0 = .ok (.aload_n 0, 1) := dk_42 (dk_at dksX5_canHave_0 0 rfl rfl)
theorem dX5_canHave_1 : decode cX5_canHave 1 = .ok (.getfield 20, 3) := dk_180 0 20 (dk_at dksX5_canHave_0 1 rfl rfl)
theorem dX5_canHave_4 : decode cX5_canHave 4 = .ok (.getfield 50, 3) := dk_180 0 50 (dk_at dksX5_canHave_0 4 rfl rfl)
theorem dX5_canHave_7 : decode cX5_canHave 7 = .ok (.iload_n 1, 1) := dk_27 (dk_at dksX5_canHave_0 7 rfl rfl)
theorem dX5_canHave_8 : decode cX5_canHave 8 = .ok (.aaload, 1) := dk_50 (dk_at dksX5_canHave_0 8 rfl rfl)
theorem dX5_canHave_9 : decode cX5_canHave 9 = .ok (.astore_n 3, 1) := dk_78 (dk_at dksX5_canHave_0 9 rfl rfl)
theorem dX5_canHave_10 : decode cX5_canHave 10 = .ok (.iconst 0, 1) := dk_3 (dk_at dksX5_canHave_0 10 rfl rfl)
theorem dX5_canHave_11 : decode cX5_canHave 11 = .ok (.istore 4, 2) := dk_54 4 (dk_at dksX5_canHave_0 11 rfl rfl)
theorem dX5_canHave_13 : decode cX5_canHave 13 = .ok (.iload 4, 2) := dk_21 4 (dk_at dksX5_canHave_0 13 rfl rfl)
theorem dX5_canHave_15 : decode cX5_canHave 15 = .ok (.aload_n 0, 1) := dk_42 (dk_at dksX5_canHave_0 15 rfl rfl)
theorem dX5_canHave_16 : decode cX5_canHave 16 = .ok (.getfield 20, 3) := dk_180 0 20 (dk_at dksX5_canHave_0 16 rfl rfl)
theorem dX5_canHave_19 : decode cX5_canHave 19 = .ok (.getfield 53, 3) := dk_180 0 53 (dk_at dksX5_canHave_0 19 rfl rfl)
theorem dX5_canHave_22 : decode cX5_canHave 22 = .ok (.if_icmp .ge 30, 3) := dk_162 0 30 (dk_at dksX5_canHave_1 0 rfl rfl)
theorem dX5_canHave_25 : decode cX5_canHave 25 = .ok (.aload_n 0, 1) := dk_42 (dk_at dksX5_canHave_1 3 rfl rfl)
theorem dX5_canHave_26 : decode cX5_canHave 26 = .ok (.getfield 9, 3) := dk_180 0 9 (dk_at dksX5_canHave_1 4 rfl rfl)
theorem dX5_canHave_29 : decode cX5_canHave 29 = .ok (.aload_n 3, 1) := dk_45 (dk_at dksX5_canHave_1 7 rfl rfl)
theorem dX5_canHave_30 : decode cX5_canHave 30 = .ok (.iload 4, 2) := dk_21 4 (dk_at dksX5_canHave_1 8 rfl rfl)
theorem dX5_canHave_32 : decode cX5_canHave 32 = .ok (.iaload, 1) := dk_46 (dk_at dksX5_canHave_1 10 rfl rfl)
theorem dX5_canHave_33 : decode cX5_canHave 33 = .ok (.iaload, 1) := dk_46 (dk_at dksX5_canHave_1 11 rfl rfl)
theorem dX5_canHave_34 : decode cX5_canHave 34 = .ok (.aload_n 2, 1) := dk_44 (dk_at dksX5_canHave_1 12 rfl rfl)
theorem dX5_canHave_35 : decode cX5_canHave 35 = .ok (.iload 4, 2) := dk_21 4 (dk_at dksX5_canHave_1 13 rfl rfl)
theorem dX5_canHave_37 : decode cX5_canHave 37 = .ok (.iaload, 1) := dk_46 (dk_at dksX5_canHave_1 15 rfl rfl)
theorem dX5_canHave_38 : decode cX5_canHave 38 = .ok (.invokestatic 56, 3) := dk_184 0 56 (dk_at dksX5_canHave_1 16 rfl rfl)
theorem dX5_canHave_41 : decode cX5_canHave 41 = .ok (.ifCond .ne 5, 3) := dk_154 0 5 (dk_at dksX5_canHave_1 19 rfl rfl)
theorem dX5_canHave_44 : decode cX5_canHave 44 = .ok (.iconst 0, 1) := dk_3 (dk_at dksX5_canHave_1 22 rfl rfl)
theorem dX5_canHave_45 : decode cX5_canHave 45 = .ok (.ireturn, 1) := dk_172 (dk_at dksX5_canHave_1 23 rfl rfl)
theorem dX5_canHave_46 : decode cX5_canHave 46 = .ok (.iinc 4 1, 3) := dk_132 4 1 (dk_at dksX5_canHave_2 0 rfl rfl)
theorem dX5_canHave_49 : decode cX5_canHave 49 = .ok (.goto (-36), 3) := dk_167 255 220 (dk_at dksX5_canHave_2 3 rfl rfl)
theorem dX5_canHave_52 : decode cX5_canHave 52 = .ok (.aload_n 0, 1) := dk_42 (dk_at dksX5_canHave_2 6 rfl rfl)
theorem dX5_canHave_53 : decode cX5_canHave 53 = .ok (.getfield 20, 3) := dk_180 0 20 (dk_at dksX5_canHave_2 7 rfl rfl)
theorem dX5_canHave_56 : decode cX5_canHave 56 = .ok (.iload_n 1, 1) := dk_27 (dk_at dksX5_canHave_2 10 rfl rfl)
theorem dX5_canHave_57 : decode cX5_canHave 57 = .ok (.aload_n 2, 1) := dk_44 (dk_at dksX5_canHave_2 11 rfl rfl)
theorem dX5_canHave_58 : decode cX5_canHave 58 = .ok (.invokevirtual 60, 3) := dk_182 0 60 (dk_at dksX5_canHave_2 12 rfl rfl)
theorem dX5_canHave_61 : decode cX5_canHave 61 = .ok (.ireturn, 1) := dk_172 (dk_at dksX5_canHave_2 15 rfl rfl)
abbrev cX5_isSolved : ByteArray := prog_4_method_15_code
def yX5_isSolved : MethodName := ⟨RX5, "isSolved", "()Z"⟩
def dkwX5_isSolved_1 : List UInt8 := [132, 2, 1, 167, 255, 234, 27, 153, 0, 14, 42, 182, 0, 123, 154, 0, 7, 4, 167, 0, 4, 3, 172]
abbrev dktX5_isSolved_1 : List UInt8 := dkwX5_isSolved_1 ++ []
def dkwX5_isSolved_0 : List UInt8 := [4, 60, 3, 61, 28, 42, 180, 0, 20, 182, 0, 34, 162, 0, 17, 27, 42, 28, 182, 0, 120, 126, 60]
abbrev dktX5_isSolved_0 : List UInt8 := dkwX5_isSolved_0 ++ dktX5_isSolved_1
theorem dksX5_isSolved_0 : cX5_isSolved.data.toList.drop 0 = dktX5_isSolved_0 := by decide +kernel
theorem dksX5_isSolved_1 : cX5_isSolved.data.toList.drop 23 = dktX5_isSolved_1 := dk_seg dksX5_isSolved_0 23 rfl rfl
theorem dX5_isSolved_0 : decode cX5_isSolved 0 = .ok (.iconst 1, 1) := dk_4 (dk_at dksX5_isSolved_0 0 rfl rfl)
theorem dX5_isSolved_1 : decode cX5_isSolved 1 = .ok (.istore_n 1, 1) := dk_60 (dk_at dksX5_isSolved_0 1 rfl rfl)
theorem dX5_isSolved_2 : decode cX5_isSolved 2 = .ok (.iconst 0, 1) := dk_3 (dk_at dksX5_isSolved_0 2 rfl rfl)
theorem dX5_isSolved_3 : decode cX5_isSolved 3 = .ok (.istore_n 2, 1) := dk_61 (dk_at dksX5_isSolved_0 3 rfl rfl)
theorem dX5_isSolved_4 : decode cX5_isSolved 4 = .ok (.iload_n 2, 1) := dk_28 (dk_at dksX5_isSolved_0 4 rfl rfl)
theorem dX5_isSolved_5 : decode cX5_isSolved 5 = .ok (.aload_n 0, 1) := dk_42 (dk_at dksX5_isSolved_0 5 rfl rfl)
theorem dX5_isSolved_6 : decode cX5_isSolved 6 = .ok (.getfield 20, 3) := dk_180 0 20 (dk_at dksX5_isSolved_0 6 rfl rfl)
theorem dX5_isSolved_9 : decode cX5_isSolved 9 = .ok (.invokevirtual 34, 3) := dk_182 0 34 (dk_at dksX5_isSolved_0 9 rfl rfl)
theorem dX5_isSolved_12 : decode cX5_isSolved 12 = .ok (.if_icmp .ge 17, 3) := dk_162 0 17 (dk_at dksX5_isSolved_0 12 rfl rfl)
theorem dX5_isSolved_15 : decode cX5_isSolved 15 = .ok (.iload_n 1, 1) := dk_27 (dk_at dksX5_isSolved_0 15 rfl rfl)
theorem dX5_isSolved_16 : decode cX5_isSolved 16 = .ok (.aload_n 0, 1) := dk_42 (dk_at dksX5_isSolved_0 16 rfl rfl)
theorem dX5_isSolved_17 : decode cX5_isSolved 17 = .ok (.iload_n 2, 1) := dk_28 (dk_at dksX5_isSolved_0 17 rfl rfl)
theorem dX5_isSolved_18 : decode cX5_isSolved 18 = .ok (.invokevirtual 120, 3) := dk_182 0 120 (dk_at dksX5_isSolved_0 18 rfl rfl)
theorem dX5_isSolved_21 : decode cX5_isSolved 21 = .ok (.iand, 1) := dk_126 (dk_at dksX5_isSolved_0 21 rfl rfl)
theorem dX5_isSolved_22 : decode cX5_isSolved 22 = .ok (.istore_n 1, 1) := dk_60 (dk_at dksX5_isSolved_0 22 rfl rfl)
theorem dX5_isSolved_23 : decode cX5_isSolved 23 = .ok (.iinc 2 1, 3) := dk_132 2 1 (dk_at dksX5_isSolved_1 0 rfl rfl)
theorem dX5_isSolved_26 : decode cX5_isSolved 26 = .ok (.goto (-22), 3) := dk_167 255 234 (dk_at dksX5_isSolved_1 3 rfl rfl)
theorem dX5_isSolved_29 : decode cX5_isSolved 29 = .ok (.iload_n 1, 1) := dk_27 (dk_at dksX5_isSolved_1 6 rfl rfl)
theorem dX5_isSolved_30 : decode cX5_isSolved 30 = .ok (.ifCond .eq 14, 3) := dk_153 0 14 (dk_at dksX5_isSolved_1 7 rfl rfl)
theorem dX5_isSolved_33 : decode cX5_isSolved 33 = .ok (.aload_n 0, 1) := dk_42 (dk_at dksX5_isSolved_1 10 rfl rfl)
theorem dX5_isSolved_34 : decode cX5_isSolved 34 = .ok (.invokevirtual 123, 3) := dk_182 0 123 (dk_at dksX5_isSolved_1 11 rfl rfl)
theorem dX5_isSolved_37 : decode cX5_isSolved 37 = .ok (.ifCond .ne 7, 3) := dk_154 0 7 (dk_at dksX5_isSolved_1 14 rfl rfl)
theorem dX5_isSolved_40 : decode cX5_isSolved 40 = .ok (.iconst 1, 1) := dk_4 (dk_at dksX5_isSolved_1 17 rfl rfl)
theorem dX5_isSolved_41 : decode cX5_isSolved 41 = .ok (.goto 4, 3) := dk_167 0 4 (dk_at dksX5_isSolved_1 18 rfl rfl)
theorem dX5_isSolved_44 : decode cX5_isSolved 44 = .ok (.iconst 0, 1) := dk_3 (dk_at dksX5_isSolved_1 21 rfl rfl)
theorem dX5_isSolved_45 : decode cX5_isSolved 45 = .ok (.ireturn, 1) := dk_172 (dk_at dksX5_isSolved_1 22 rfl rfl)
abbrev cX5_brokenLines : ByteArray := prog_4_method_12_code
def yX5_brokenLines : MethodName := ⟨RX5, "brokenLines", "()I"⟩
def dkwX5_brokenLines_1 : List UInt8 := [4, 28, 120, 167, 0, 4, 3, 128, 60, 132, 2, 1, 167, 255, 224, 27, 172]
abbrev dktX5_brokenLines_1 : List UInt8 := dkwX5_brokenLines_1 ++ []
def dkwX5_brokenLines_0 : List UInt8 := [3, 60, 3, 61, 28, 42, 180, 0, 20, 182, 0, 111, 162, 0, 27, 27, 42, 28, 182, 0, 114, 153, 0, 9]
abbrev dktX5_brokenLines_0 : List UInt8 := dkwX5_brokenLines_0 ++ dktX5_brokenLines_1
theorem dksX5_brokenLines_0 : cX5_brokenLines.data.toList.drop 0 = dktX5_brokenLines_0 := by decide +kernel
theorem dksX5_brokenLines_1 : cX5_brokenLines.data.toList.drop 24 = dktX5_brokenLines_1 := dk_seg dksX5_brokenLines_0 24 rfl rfl
theorem dX5_brokenLines_0 : decode cX5_brokenLines 0 = .ok (.iconst 0, 1) := dk_3 (dk_at dksX5_brokenLines_0 0 rfl rfl)
theorem dX5_brokenLines_1 : decode cX5_brokenLines 1 = .ok (.istore_n 1, 1) := dk_60 (dk_at dksX5_brokenLines_0 1 rfl rfl)
theorem dX5_brokenLines_2 : decode cX5_brokenLines 2 = .ok (.iconst 0, 1) := dk_3 (dk_at dksX5_brokenLines_0 2 rfl rfl)
theorem dX5_brokenLines_3 : decode cX5_brokenLines 3 = .ok (.istore_n 2, 1) := dk_61 (dk_at dksX5_brokenLines_0 3 rfl rfl)
theorem dX5_brokenLines_4 : decode cX5_brokenLines 4 = .ok (.iload_n 2, 1) := dk_28 (dk_at dksX5_brokenLines_0 4 rfl rfl)
theorem dX5_brokenLines_5 : decode cX5_brokenLines 5 = .ok (.aload_n 0, 1) := dk_42 (dk_at dksX5_brokenLines_0 5 rfl rfl)
theorem dX5_brokenLines_6 : decode cX5_brokenLines 6 = .ok (.getfield 20, 3) := dk_180 0 20 (dk_at dksX5_brokenLines_0 6 rfl rfl)
theorem dX5_brokenLines_9 : decode cX5_brokenLines 9 = .ok (.invokevirtual 111, 3) := dk_182 0 111 (dk_at dksX5_brokenLines_0 9 rfl rfl)
theorem dX5_brokenLines_12 : decode cX5_brokenLines 12 = .ok (.if_icmp .ge 27, 3) := dk_162 0 27 (dk_at dksX5_brokenLines_0 12 rfl rfl)
theorem dX5_brokenLines_15 : decode cX5_brokenLines 15 = .ok (.iload_n 1, 1) := dk_27 (dk_at dksX5_brokenLines_0 15 rfl rfl)
theorem dX5_brokenLines_16 : decode cX5_brokenLines 16 = .ok (.aload_n 0, 1) := dk_42 (dk_at dksX5_brokenLines_0 16 rfl rfl)
theorem dX5_brokenLines_17 : decode cX5_brokenLines 17 = .ok (.iload_n 2, 1) := dk_28 (dk_at dksX5_brokenLines_0 17 rfl rfl)
theorem dX5_brokenLines_18 : decode cX5_brokenLines 18 = .ok (.invokevirtual 114, 3) := dk_182 0 114 (dk_at dksX5_brokenLines_0 18 rfl rfl)
theorem dX5_brokenLines_21 : decode cX5_brokenLines 21 = .ok (.ifCond .eq 9, 3) := dk_153 0 9 (dk_at dksX5_brokenLines_0 21 rfl rfl)
theorem dX5_brokenLines_24 : decode cX5_brokenLines 24 = .ok (.iconst 1, 1) := dk_4 (dk_at dksX5_brokenLines_1 0 rfl rfl)
theorem dX5_brokenLines_25 : decode cX5_brokenLines 25 = .ok (.iload_n 2, 1) := dk_28 (dk_at dksX5_brokenLines_1 1 rfl rfl)
theorem dX5_brokenLines_26 : decode cX5_brokenLines 26 = .ok (.ishl, 1) := dk_120 (dk_at dksX5_brokenLines_1 2 rfl rfl)
theorem dX5_brokenLines_27 : decode cX5_brokenLines 27 = .ok (.goto 4, 3) := dk_167 0 4 (dk_at dksX5_brokenLines_1 3 rfl rfl)
theorem dX5_brokenLines_30 : decode cX5_brokenLines 30 = .ok (.iconst 0, 1) := dk_3 (dk_at dksX5_brokenLines_1 6 rfl rfl)
theorem dX5_brokenLines_31 : decode cX5_brokenLines 31 = .ok (.ior, 1) := dk_128 (dk_at dksX5_brokenLines_1 7 rfl rfl)
theorem dX5_brokenLines_32 : decode cX5_brokenLines 32 = .ok (.istore_n 1, 1) := dk_60 (dk_at dksX5_brokenLines_1 8 rfl rfl)
theorem dX5_brokenLines_33 : decode cX5_brokenLines 33 = .ok (.iinc 2 1, 3) := dk_132 2 1 (dk_at dksX5_brokenLines_1 9 rfl rfl)
theorem dX5_brokenLines_36 : decode cX5_brokenLines 36 = .ok (.goto (-32), 3) := dk_167 255 224 (dk_at dksX5_brokenLines_1 12 rfl rfl)
theorem dX5_brokenLines_39 : decode cX5_brokenLines 39 = .ok (.iload_n 1, 1) := dk_27 (dk_at dksX5_brokenLines_1 15 rfl rfl)
theorem dX5_brokenLines_40 : decode cX5_brokenLines 40 = .ok (.ireturn, 1) := dk_172 (dk_at dksX5_brokenLines_1 16 rfl rfl)
abbrev cX5_next : ByteArray := prog_4_method_29_code
def yX5_next : MethodName := ⟨RX5, "next", "(ILEdgeLetters$Board;)I"⟩
def dkwX5_next_1 : List UInt8 := [21, 4, 2, 159, 0, 12, 17, 3, 232, 29, 104, 21, 4, 96, 172, 132, 3, 1, 167, 255, 225, 2, 172]
abbrev dktX5_next_1 : List UInt8 := dkwX5_next_1 ++ []
def dkwX5_next_0 : List UInt8 := [42, 182, 0, 123, 153, 0, 5, 2, 172, 4, 62, 29, 27, 163, 0, 32, 42, 29, 44, 182, 0, 175, 54, 4]
abbrev dktX5_next_0 : List UInt8 := dkwX5_next_0 ++ dktX5_next_1
theorem dksX5_next_0 : cX5_next.data.toList.drop 0 = dktX5_next_0 := by decide +kernel
theorem dksX5_next_1 : cX5_next.data.toList.drop 24 = dktX5_next_1 := dk_seg dksX5_next_0 24 rfl rfl
theorem dX5_next_0 : decode cX5_next 0 = .ok (.aload_n 0, 1) := dk_42 (dk_at dksX5_next_0 0 rfl rfl)
theorem dX5_next_1 : decode cX5_next 1 = .ok (.invokevirtual 123, 3) := dk_182 0 123 (dk_at dksX5_next_0 1 rfl rfl)
theorem dX5_next_4 : decode cX5_next 4 = .ok (.ifCond .eq 5, 3) := dk_153 0 5 (dk_at dksX5_next_0 4 rfl rfl)
theorem dX5_next_7 : decode cX5_next 7 = .ok (.iconst (-1), 1) := dk_2 (dk_at dksX5_next_0 7 rfl rfl)
theorem dX5_next_8 : decode cX5_next 8 = .ok (.ireturn, 1) := dk_172 (dk_at dksX5_next_0 8 rfl rfl)
theorem dX5_next_9 : decode cX5_next 9 = .ok (.iconst 1, 1) := dk_4 (dk_at dksX5_next_0 9 rfl rfl)
theorem dX5_next_10 : decode cX5_next 10 = .ok (.istore_n 3, 1) := dk_62 (dk_at dksX5_next_0 10 rfl rfl)
theorem dX5_next_11 : decode cX5_next 11 = .ok (.iload_n 3, 1) := dk_29 (dk_at dksX5_next_0 11 rfl rfl)
theorem dX5_next_12 : decode cX5_next 12 = .ok (.iload_n 1, 1) := dk_27 (dk_at dksX5_next_0 12 rfl rfl)
theorem dX5_next_13 : decode cX5_next 13 = .ok (.if_icmp .gt 32, 3) := dk_163 0 32 (dk_at dksX5_next_0 13 rfl rfl)
theorem dX5_next_16 : decode cX5_next 16 = .ok (.aload_n 0, 1) := dk_42 (dk_at dksX5_next_0 16 rfl rfl)
theorem dX5_next_17 : decode cX5_next 17 = .ok (.iload_n 3, 1) := dk_29 (dk_at dksX5_next_0 17 rfl rfl)
theorem dX5_next_18 : decode cX5_next 18 = .ok (.aload_n 2, 1) := dk_44 (dk_at dksX5_next_0 18 rfl rfl)
theorem dX5_next_19 : decode cX5_next 19 = .ok (.invokevirtual 175, 3) := dk_182 0 175 (dk_at dksX5_next_0 19 rfl rfl)
theorem dX5_next_22 : decode cX5_next 22 = .ok (.istore 4, 2) := dk_54 4 (dk_at dksX5_next_0 22 rfl rfl)
theorem dX5_next_24 : decode cX5_next 24 = .ok (.iload 4, 2) := dk_21 4 (dk_at dksX5_next_1 0 rfl rfl)
theorem dX5_next_26 : decode cX5_next 26 = .ok (.iconst (-1), 1) := dk_2 (dk_at dksX5_next_1 2 rfl rfl)
theorem dX5_next_27 : decode cX5_next 27 = .ok (.if_icmp .eq 12, 3) := dk_159 0 12 (dk_at dksX5_next_1 3 rfl rfl)
theorem dX5_next_30 : decode cX5_next 30 = .ok (.sipush 1000, 3) := dk_17 3 232 (dk_at dksX5_next_1 6 rfl rfl)
theorem dX5_next_33 : decode cX5_next 33 = .ok (.iload_n 3, 1) := dk_29 (dk_at dksX5_next_1 9 rfl rfl)
theorem dX5_next_34 : decode cX5_next 34 = .ok (.imul, 1) := dk_104 (dk_at dksX5_next_1 10 rfl rfl)
theorem dX5_next_35 : decode cX5_next 35 = .ok (.iload 4, 2) := dk_21 4 (dk_at dksX5_next_1 11 rfl rfl)
theorem dX5_next_37 : decode cX5_next 37 = .ok (.iadd, 1) := dk_96 (dk_at dksX5_next_1 13 rfl rfl)
theorem dX5_next_38 : decode cX5_next 38 = .ok (.ireturn, 1) := dk_172 (dk_at dksX5_next_1 14 rfl rfl)
theorem dX5_next_39 : decode cX5_next 39 = .ok (.iinc 3 1, 3) := dk_132 3 1 (dk_at dksX5_next_1 15 rfl rfl)
theorem dX5_next_42 : decode cX5_next 42 = .ok (.goto (-31), 3) := dk_167 255 225 (dk_at dksX5_next_1 18 rfl rfl)
theorem dX5_next_45 : decode cX5_next 45 = .ok (.iconst (-1), 1) := dk_2 (dk_at dksX5_next_1 21 rfl rfl)
theorem dX5_next_46 : decode cX5_next 46 = .ok (.ireturn, 1) := dk_172 (dk_at dksX5_next_1 22 rfl rfl)
abbrev cX5_nextFor : ByteArray := prog_4_method_28_code
def yX5_nextFor : MethodName := ⟨RX5, "nextFor", "(ILEdgeLetters$Board;)I"⟩
def dkwX5_nextFor_3 : List UInt8 := [100, 126, 54, 4, 167, 255, 215, 132, 3, 1, 167, 255, 178, 2, 172]
abbrev dktX5_nextFor_3 : List UInt8 := dkwX5_nextFor_3 ++ []
def dkwX5_nextFor_2 : List UInt8 := [27, 29, 21, 5, 44, 182, 0, 171, 153, 0, 11, 16, 10, 29, 104, 21, 5, 96, 172, 21, 4, 21, 4, 4]
abbrev dktX5_nextFor_2 : List UInt8 := dkwX5_nextFor_2 ++ dktX5_nextFor_3
def dkwX5_nextFor_1 : List UInt8 := [167, 0, 9, 42, 180, 0, 9, 29, 46, 54, 4, 21, 4, 153, 0, 42, 21, 4, 184, 0, 104, 54, 5, 42]
abbrev dktX5_nextFor_1 : List UInt8 := dkwX5_nextFor_1 ++ dktX5_nextFor_2
def dkwX5_nextFor_0 : List UInt8 := [3, 62, 29, 42, 180, 0, 20, 182, 0, 34, 162, 0, 73, 42, 29, 182, 0, 120, 153, 0, 7, 3]
abbrev dktX5_nextFor_0 : List UInt8 := dkwX5_nextFor_0 ++ dktX5_nextFor_1
theorem dksX5_nextFor_0 : cX5_nextFor.data.toList.drop 0 = dktX5_nextFor_0 := by decide +kernel
theorem dksX5_nextFor_1 : cX5_nextFor.data.toList.drop 22 = dktX5_nextFor_1 := dk_seg dksX5_nextFor_0 22 rfl rfl
theorem dksX5_nextFor_2 : cX5_nextFor.data.toList.drop 46 = dktX5_nextFor_2 := dk_seg dksX5_nextFor_1 24 rfl rfl
theorem dksX5_nextFor_3 : cX5_nextFor.data.toList.drop 70 = dktX5_nextFor_3 := dk_seg dksX5_nextFor_2 24 rfl rfl
theorem dX5_nextFor_0 : decode cX5_nextFor 0 = .ok (.iconst 0, 1) := dk_3 (dk_at dksX5_nextFor_0 0 rfl rfl)
theorem dX5_nextFor_1 : decode cX5_nextFor 1 = .ok (.istore_n 3, 1) := dk_62 (dk_at dksX5_nextFor_0 1 rfl rfl)
theorem dX5_nextFor_2 : decode cX5_nextFor 2 = .ok (.iload_n 3, 1) := dk_29 (dk_at dksX5_nextFor_0 2 rfl rfl)
theorem dX5_nextFor_3 : decode cX5_nextFor 3 = .ok (.aload_n 0, 1) := dk_42 (dk_at dksX5_nextFor_0 3 rfl rfl)
theorem dX5_nextFor_4 : decode cX5_nextFor 4 = .ok (.getfield 20, 3) := dk_180 0 20 (dk_at dksX5_nextFor_0 4 rfl rfl)
theorem dX5_nextFor_7 : decode cX5_nextFor 7 = .ok (.invokevirtual 34, 3) := dk_182 0 34 (dk_at dksX5_nextFor_0 7 rfl rfl)
theorem dX5_nextFor_10 : decode cX5_nextFor 10 = .ok (.if_icmp .ge 73, 3) := dk_162 0 73 (dk_at dksX5_nextFor_0 10 rfl rfl)
theorem dX5_nextFor_13 : decode cX5_nextFor 13 = .ok (.aload_n 0, 1) := dk_42 (dk_at dksX5_nextFor_0 13 rfl rfl)
theorem dX5_nextFor_14 : decode cX5_nextFor 14 = .ok (.iload_n 3, 1) := dk_29 (dk_at dksX5_nextFor_0 14 rfl rfl)
theorem dX5_nextFor_15 : decode cX5_nextFor 15 = .ok (.invokevirtual 120, 3) := dk_182 0 120 (dk_at dksX5_nextFor_0 15 rfl rfl)
theorem dX5_nextFor_18 : decode cX5_nextFor 18 = .ok (.ifCond .eq 7, 3) := dk_153 0 7 (dk_at dksX5_nextFor_0 18 rfl rfl)
theorem dX5_nextFor_21 : decode cX5_nextFor 21 = .ok (.iconst 0, 1) := dk_3 (dk_at dksX5_nextFor_0 21 rfl rfl)
theorem dX5_nextFor_22 : decode cX5_nextFor 22 = .ok (.goto 9, 3) := dk_167 0 9 (dk_at dksX5_nextFor_1 0 rfl rfl)
theorem dX5_nextFor_25 : decode cX5_nextFor 25 = .ok (.aload_n 0, 1) := dk_42 (dk_at dksX5_nextFor_1 3 rfl rfl)
theorem dX5_nextFor_26 : decode cX5_nextFor 26 = .ok (.getfield 9, 3) := dk_180 0 9 (dk_at dksX5_nextFor_1 4 rfl rfl)
theorem dX5_nextFor_29 : decode cX5_nextFor 29 = .ok (.iload_n 3, 1) := dk_29 (dk_at dksX5_nextFor_1 7 rfl rfl)
theorem dX5_nextFor_30 : decode cX5_nextFor 30 = .ok (.iaload, 1) := dk_46 (dk_at dksX5_nextFor_1 8 rfl rfl)
theorem dX5_nextFor_31 : decode cX5_nextFor 31 = .ok (.istore 4, 2) := dk_54 4 (dk_at dksX5_nextFor_1 9 rfl rfl)
theorem dX5_nextFor_33 : decode cX5_nextFor 33 = .ok (.iload 4, 2) := dk_21 4 (dk_at dksX5_nextFor_1 11 rfl rfl)
theorem dX5_nextFor_35 : decode cX5_nextFor 35 = .ok (.ifCond .eq 42, 3) := dk_153 0 42 (dk_at dksX5_nextFor_1 13 rfl rfl)
theorem dX5_nextFor_38 : decode cX5_nextFor 38 = .ok (.iload 4, 2) := dk_21 4 (dk_at dksX5_nextFor_1 16 rfl rfl)
theorem dX5_nextFor_40 : decode cX5_nextFor 40 = .ok (.invokestatic 104, 3) := dk_184 0 104 (dk_at dksX5_nextFor_1 18 rfl rfl)
theorem dX5_nextFor_43 : decode cX5_nextFor 43 = .ok (.istore 5, 2) := dk_54 5 (dk_at dksX5_nextFor_1 21 rfl rfl)
theorem dX5_nextFor_45 : decode cX5_nextFor 45 = .ok (.aload_n 0, 1) := dk_42 (dk_at dksX5_nextFor_1 23 rfl rfl)
theorem dX5_nextFor_46 : decode cX5_nextFor 46 = .ok (.iload_n 1, 1) := dk_27 (dk_at dksX5_nextFor_2 0 rfl rfl)
theorem dX5_nextFor_47 : decode cX5_nextFor 47 = .ok (.iload_n 3, 1) := dk_29 (dk_at dksX5_nextFor_2 1 rfl rfl)
theorem dX5_nextFor_48 : decode cX5_nextFor 48 = .ok (.iload 5, 2) := dk_21 5 (dk_at dksX5_nextFor_2 2 rfl rfl)
theorem dX5_nextFor_50 : decode cX5_nextFor 50 = .ok (.aload_n 2, 1) := dk_44 (dk_at dksX5_nextFor_2 4 rfl rfl)
theorem dX5_nextFor_51 : decode cX5_nextFor 51 = .ok (.invokevirtual 171, 3) := dk_182 0 171 (dk_at dksX5_nextFor_2 5 rfl rfl)
theorem dX5_nextFor_54 : decode cX5_nextFor 54 = .ok (.ifCond .eq 11, 3) := dk_153 0 11 (dk_at dksX5_nextFor_2 8 rfl rfl)
theorem dX5_nextFor_57 : decode cX5_nextFor 57 = .ok (.bipush 10, 2) := dk_16 10 (dk_at dksX5_nextFor_2 11 rfl rfl)
theorem dX5_nextFor_59 : decode cX5_nextFor 59 = .ok (.iload_n 3, 1) := dk_29 (dk_at dksX5_nextFor_2 13 rfl rfl)
theorem dX5_nextFor_60 : decode cX5_nextFor 60 = .ok (.imul, 1) := dk_104 (dk_at dksX5_nextFor_2 14 rfl rfl)
theorem dX5_nextFor_61 : decode cX5_nextFor 61 = .ok (.iload 5, 2) := dk_21 5 (dk_at dksX5_nextFor_2 15 rfl rfl)
theorem dX5_nextFor_63 : decode cX5_nextFor 63 = .ok (.iadd, 1) := dk_96 (dk_at dksX5_nextFor_2 17 rfl rfl)
theorem dX5_nextFor_64 : decode cX5_nextFor 64 = .ok (.ireturn, 1) := dk_172 (dk_at dksX5_nextFor_2 18 rfl rfl)
theorem dX5_nextFor_65 : decode cX5_nextFor 65 = .ok (.iload 4, 2) := dk_21 4 (dk_at dksX5_nextFor_2 19 rfl rfl)
theorem dX5_nextFor_67 : decode cX5_nextFor 67 = .ok (.iload 4, 2) := dk_21 4 (dk_at dksX5_nextFor_2 21 rfl rfl)
theorem dX5_nextFor_69 : decode cX5_nextFor 69 = .ok (.iconst 1, 1) := dk_4 (dk_at dksX5_nextFor_2 23 rfl rfl)
theorem dX5_nextFor_70 : decode cX5_nextFor 70 = .ok (.isub, 1) := dk_100 (dk_at dksX5_nextFor_3 0 rfl rfl)
theorem dX5_nextFor_71 : decode cX5_nextFor 71 = .ok (.iand, 1) := dk_126 (dk_at dksX5_nextFor_3 1 rfl rfl)
theorem dX5_nextFor_72 : decode cX5_nextFor 72 = .ok (.istore 4, 2) := dk_54 4 (dk_at dksX5_nextFor_3 2 rfl rfl)
theorem dX5_nextFor_74 : decode cX5_nextFor 74 = .ok (.goto (-41), 3) := dk_167 255 215 (dk_at dksX5_nextFor_3 4 rfl rfl)
theorem dX5_nextFor_77 : decode cX5_nextFor 77 = .ok (.iinc 3 1, 3) := dk_132 3 1 (dk_at dksX5_nextFor_3 7 rfl rfl)
theorem dX5_nextFor_80 : decode cX5_nextFor 80 = .ok (.goto (-78), 3) := dk_167 255 178 (dk_at dksX5_nextFor_3 10 rfl rfl)
theorem dX5_nextFor_83 : decode cX5_nextFor 83 = .ok (.iconst (-1), 1) := dk_2 (dk_at dksX5_nextFor_3 13 rfl rfl)
theorem dX5_nextFor_84 : decode cX5_nextFor 84 = .ok (.ireturn, 1) := dk_172 (dk_at dksX5_nextFor_3 14 rfl rfl)
abbrev cX5_holds : ByteArray := prog_4_method_26_code
def yX5_holds : MethodName := ⟨RX5, "holds", "(IIILEdgeLetters$Board;)Z"⟩
def dkwX5_holds_2 : List UInt8 := [28, 29, 182, 0, 167, 54, 5, 21, 6, 21, 6, 4, 100, 126, 54, 6, 167, 255, 223, 21, 5, 172]
abbrev dktX5_holds_2 : List UInt8 := dkwX5_holds_2 ++ []
def dkwX5_holds_1 : List UInt8 := [180, 0, 117, 28, 46, 54, 6, 21, 6, 153, 0, 34, 21, 5, 154, 0, 29, 42, 21, 6, 184, 0, 104, 27]
abbrev dktX5_holds_1 : List UInt8 := dkwX5_holds_1 ++ dktX5_holds_2
def dkwX5_holds_0 : List UInt8 := [27, 16, 6, 160, 0, 12, 42, 28, 29, 25, 4, 182, 0, 163, 172, 3, 54, 5, 42, 180, 0, 20]
abbrev dktX5_holds_0 : List UInt8 := dkwX5_holds_0 ++ dktX5_holds_1
theorem dksX5_holds_0 : cX5_holds.data.toList.drop 0 = dktX5_holds_0 := by decide +kernel
theorem dksX5_holds_1 : cX5_holds.data.toList.drop 22 = dktX5_holds_1 := dk_seg dksX5_holds_0 22 rfl rfl
theorem dksX5_holds_2 : cX5_holds.data.toList.drop 46 = dktX5_holds_2 := dk_seg dksX5_holds_1 24 rfl rfl
theorem dX5_holds_0 : decode cX5_holds 0 = .ok (.iload_n 1, 1) := dk_27 (dk_at dksX5_holds_0 0 rfl rfl)
theorem dX5_holds_1 : decode cX5_holds 1 = .ok (.bipush 6, 2) := dk_16 6 (dk_at dksX5_holds_0 1 rfl rfl)
theorem dX5_holds_3 : decode cX5_holds 3 = .ok (.if_icmp .ne 12, 3) := dk_160 0 12 (dk_at dksX5_holds_0 3 rfl rfl)
theorem dX5_holds_6 : decode cX5_holds 6 = .ok (.aload_n 0, 1) := dk_42 (dk_at dksX5_holds_0 6 rfl rfl)
theorem dX5_holds_7 : decode cX5_holds 7 = .ok (.iload_n 2, 1) := dk_28 (dk_at dksX5_holds_0 7 rfl rfl)
theorem dX5_holds_8 : decode cX5_holds 8 = .ok (.iload_n 3, 1) := dk_29 (dk_at dksX5_holds_0 8 rfl rfl)
theorem dX5_holds_9 : decode cX5_holds 9 = .ok (.aload 4, 2) := dk_25 4 (dk_at dksX5_holds_0 9 rfl rfl)
theorem dX5_holds_11 : decode cX5_holds 11 = .ok (.invokevirtual 163, 3) := dk_182 0 163 (dk_at dksX5_holds_0 11 rfl rfl)
theorem dX5_holds_14 : decode cX5_holds 14 = .ok (.ireturn, 1) := dk_172 (dk_at dksX5_holds_0 14 rfl rfl)
theorem dX5_holds_15 : decode cX5_holds 15 = .ok (.iconst 0, 1) := dk_3 (dk_at dksX5_holds_0 15 rfl rfl)
theorem dX5_holds_16 : decode cX5_holds 16 = .ok (.istore 5, 2) := dk_54 5 (dk_at dksX5_holds_0 16 rfl rfl)
theorem dX5_holds_18 : decode cX5_holds 18 = .ok (.aload_n 0, 1) := dk_42 (dk_at dksX5_holds_0 18 rfl rfl)
theorem dX5_holds_19 : decode cX5_holds 19 = .ok (.getfield 20, 3) := dk_180 0 20 (dk_at dksX5_holds_0 19 rfl rfl)
theorem dX5_holds_22 : decode cX5_holds 22 = .ok (.getfield 117, 3) := dk_180 0 117 (dk_at dksX5_holds_1 0 rfl rfl)
theorem dX5_holds_25 : decode cX5_holds 25 = .ok (.iload_n 2, 1) := dk_28 (dk_at dksX5_holds_1 3 rfl rfl)
theorem dX5_holds_26 : decode cX5_holds 26 = .ok (.iaload, 1) := dk_46 (dk_at dksX5_holds_1 4 rfl rfl)
theorem dX5_holds_27 : decode cX5_holds 27 = .ok (.istore 6, 2) := dk_54 6 (dk_at dksX5_holds_1 5 rfl rfl)
theorem dX5_holds_29 : decode cX5_holds 29 = .ok (.iload 6, 2) := dk_21 6 (dk_at dksX5_holds_1 7 rfl rfl)
theorem dX5_holds_31 : decode cX5_holds 31 = .ok (.ifCond .eq 34, 3) := dk_153 0 34 (dk_at dksX5_holds_1 9 rfl rfl)
theorem dX5_holds_34 : decode cX5_holds 34 = .ok (.iload 5, 2) := dk_21 5 (dk_at dksX5_holds_1 12 rfl rfl)
theorem dX5_holds_36 : decode cX5_holds 36 = .ok (.ifCond .ne 29, 3) := dk_154 0 29 (dk_at dksX5_holds_1 14 rfl rfl)
theorem dX5_holds_39 : decode cX5_holds 39 = .ok (.aload_n 0, 1) := dk_42 (dk_at dksX5_holds_1 17 rfl rfl)
theorem dX5_holds_40 : decode cX5_holds 40 = .ok (.iload 6, 2) := dk_21 6 (dk_at dksX5_holds_1 18 rfl rfl)
theorem dX5_holds_42 : decode cX5_holds 42 = .ok (.invokestatic 104, 3) := dk_184 0 104 (dk_at dksX5_holds_1 20 rfl rfl)
theorem dX5_holds_45 : decode cX5_holds 45 = .ok (.iload_n 1, 1) := dk_27 (dk_at dksX5_holds_1 23 rfl rfl)
theorem dX5_holds_46 : decode cX5_holds 46 = .ok (.iload_n 2, 1) := dk_28 (dk_at dksX5_holds_2 0 rfl rfl)
theorem dX5_holds_47 : decode cX5_holds 47 = .ok (.iload_n 3, 1) := dk_29 (dk_at dksX5_holds_2 1 rfl rfl)
theorem dX5_holds_48 : decode cX5_holds 48 = .ok (.invokevirtual 167, 3) := dk_182 0 167 (dk_at dksX5_holds_2 2 rfl rfl)
theorem dX5_holds_51 : decode cX5_holds 51 = .ok (.istore 5, 2) := dk_54 5 (dk_at dksX5_holds_2 5 rfl rfl)
theorem dX5_holds_53 : decode cX5_holds 53 = .ok (.iload 6, 2) := dk_21 6 (dk_at dksX5_holds_2 7 rfl rfl)
theorem dX5_holds_55 : decode cX5_holds 55 = .ok (.iload 6, 2) := dk_21 6 (dk_at dksX5_holds_2 9 rfl rfl)
theorem dX5_holds_57 : decode cX5_holds 57 = .ok (.iconst 1, 1) := dk_4 (dk_at dksX5_holds_2 11 rfl rfl)
theorem dX5_holds_58 : decode cX5_holds 58 = .ok (.isub, 1) := dk_100 (dk_at dksX5_holds_2 12 rfl rfl)
theorem dX5_holds_59 : decode cX5_holds 59 = .ok (.iand, 1) := dk_126 (dk_at dksX5_holds_2 13 rfl rfl)
theorem dX5_holds_60 : decode cX5_holds 60 = .ok (.istore 6, 2) := dk_54 6 (dk_at dksX5_holds_2 14 rfl rfl)
theorem dX5_holds_62 : decode cX5_holds 62 = .ok (.goto (-33), 3) := dk_167 255 223 (dk_at dksX5_holds_2 16 rfl rfl)
theorem dX5_holds_65 : decode cX5_holds 65 = .ok (.iload 5, 2) := dk_21 5 (dk_at dksX5_holds_2 19 rfl rfl)
theorem dX5_holds_67 : decode cX5_holds 67 = .ok (.ireturn, 1) := dk_172 (dk_at dksX5_holds_2 21 rfl rfl)
abbrev cX5_breaksAs : ByteArray := prog_4_method_23_code
def yX5_breaksAs : MethodName := ⟨RX5, "breaksAs", "(IILEdgeLetters$Board;)Z"⟩
def dkwX5_breaksAs_0 : List UInt8 := [45, 42, 182, 0, 153, 45, 180, 0, 9, 27, 4, 28, 120, 79, 45, 182, 0, 157, 45, 182, 0, 123, 172]
abbrev dktX5_breaksAs_0 : List UInt8 := dkwX5_breaksAs_0 ++ []
theorem dksX5_breaksAs_0 : cX5_breaksAs.data.toList.drop 0 = dktX5_breaksAs_0 := by decide +kernel
theorem dX5_breaksAs_0 : decode cX5_breaksAs 0 = .ok (.aload_n 3, 1) := dk_45 (dk_at dksX5_breaksAs_0 0 rfl rfl)
theorem dX5_breaksAs_1 : decode cX5_breaksAs 1 = .ok (.aload_n 0, 1) := dk_42 (dk_at dksX5_breaksAs_0 1 rfl rfl)
theorem dX5_breaksAs_2 : decode cX5_breaksAs 2 = .ok (.invokevirtual 153, 3) := dk_182 0 153 (dk_at dksX5_breaksAs_0 2 rfl rfl)
theorem dX5_breaksAs_5 : decode cX5_breaksAs 5 = .ok (.aload_n 3, 1) := dk_45 (dk_at dksX5_breaksAs_0 5 rfl rfl)
theorem dX5_breaksAs_6 : decode cX5_breaksAs 6 = .ok (.getfield 9, 3) := dk_180 0 9 (dk_at dksX5_breaksAs_0 6 rfl rfl)
theorem dX5_breaksAs_9 : decode cX5_breaksAs 9 = .ok (.iload_n 1, 1) := dk_27 (dk_at dksX5_breaksAs_0 9 rfl rfl)
theorem dX5_breaksAs_10 : decode cX5_breaksAs 10 = .ok (.iconst 1, 1) := dk_4 (dk_at dksX5_breaksAs_0 10 rfl rfl)
theorem dX5_breaksAs_11 : decode cX5_breaksAs 11 = .ok (.iload_n 2, 1) := dk_28 (dk_at dksX5_breaksAs_0 11 rfl rfl)
theorem dX5_breaksAs_12 : decode cX5_breaksAs 12 = .ok (.ishl, 1) := dk_120 (dk_at dksX5_breaksAs_0 12 rfl rfl)
theorem dX5_breaksAs_13 : decode cX5_breaksAs 13 = .ok (.iastore, 1) := dk_79 (dk_at dksX5_breaksAs_0 13 rfl rfl)
theorem dX5_breaksAs_14 : decode cX5_breaksAs 14 = .ok (.aload_n 3, 1) := dk_45 (dk_at dksX5_breaksAs_0 14 rfl rfl)
theorem dX5_breaksAs_15 : decode cX5_breaksAs 15 = .ok (.invokevirtual 157, 3) := dk_182 0 157 (dk_at dksX5_breaksAs_0 15 rfl rfl)
theorem dX5_breaksAs_18 : decode cX5_breaksAs 18 = .ok (.aload_n 3, 1) := dk_45 (dk_at dksX5_breaksAs_0 18 rfl rfl)
theorem dX5_breaksAs_19 : decode cX5_breaksAs 19 = .ok (.invokevirtual 123, 3) := dk_182 0 123 (dk_at dksX5_breaksAs_0 19 rfl rfl)
theorem dX5_breaksAs_22 : decode cX5_breaksAs 22 = .ok (.ireturn, 1) := dk_172 (dk_at dksX5_breaksAs_0 22 rfl rfl)
abbrev cX5_fill : ByteArray := prog_4_method_24_code
def yX5_fill : MethodName := ⟨RX5, "fill", "()V"⟩
def dkwX5_fill_1 : List UInt8 := [182, 0, 160, 128, 60, 132, 2, 1, 167, 255, 234, 167, 255, 223, 177]
abbrev dktX5_fill_1 : List UInt8 := dkwX5_fill_1 ++ []
def dkwX5_fill_0 : List UInt8 := [4, 60, 27, 153, 0, 35, 3, 60, 3, 61, 28, 42, 180, 0, 20, 182, 0, 111, 162, 0, 17, 27, 42, 28]
abbrev dktX5_fill_0 : List UInt8 := dkwX5_fill_0 ++ dktX5_fill_1
theorem dksX5_fill_0 : cX5_fill.data.toList.drop 0 = dktX5_fill_0 := by decide +kernel
theorem dksX5_fill_1 : cX5_fill.data.toList.drop 24 = dktX5_fill_1 := dk_seg dksX5_fill_0 24 rfl rfl
theorem dX5_fill_0 : decode cX5_fill 0 = .ok (.iconst 1, 1) := dk_4 (dk_at dksX5_fill_0 0 rfl rfl)
theorem dX5_fill_1 : decode cX5_fill 1 = .ok (.istore_n 1, 1) := dk_60 (dk_at dksX5_fill_0 1 rfl rfl)
theorem dX5_fill_2 : decode cX5_fill 2 = .ok (.iload_n 1, 1) := dk_27 (dk_at dksX5_fill_0 2 rfl rfl)
theorem dX5_fill_3 : decode cX5_fill 3 = .ok (.ifCond .eq 35, 3) := dk_153 0 35 (dk_at dksX5_fill_0 3 rfl rfl)
theorem dX5_fill_6 : decode cX5_fill 6 = .ok (.iconst 0, 1) := dk_3 (dk_at dksX5_fill_0 6 rfl rfl)
theorem dX5_fill_7 : decode cX5_fill 7 = .ok (.istore_n 1, 1) := dk_60 (dk_at dksX5_fill_0 7 rfl rfl)
theorem dX5_fill_8 : decode cX5_fill 8 = .ok (.iconst 0, 1) := dk_3 (dk_at dksX5_fill_0 8 rfl rfl)
theorem dX5_fill_9 : decode cX5_fill 9 = .ok (.istore_n 2, 1) := dk_61 (dk_at dksX5_fill_0 9 rfl rfl)
theorem dX5_fill_10 : decode cX5_fill 10 = .ok (.iload_n 2, 1) := dk_28 (dk_at dksX5_fill_0 10 rfl rfl)
theorem dX5_fill_11 : decode cX5_fill 11 = .ok (.aload_n 0, 1) := dk_42 (dk_at dksX5_fill_0 11 rfl rfl)
theorem dX5_fill_12 : decode cX5_fill 12 = .ok (.getfield 20, 3) := dk_180 0 20 (dk_at dksX5_fill_0 12 rfl rfl)
theorem dX5_fill_15 : decode cX5_fill 15 = .ok (.invokevirtual 111, 3) := dk_182 0 111 (dk_at dksX5_fill_0 15 rfl rfl)
theorem dX5_fill_18 : decode cX5_fill 18 = .ok (.if_icmp .ge 17, 3) := dk_162 0 17 (dk_at dksX5_fill_0 18 rfl rfl)
theorem dX5_fill_21 : decode cX5_fill 21 = .ok (.iload_n 1, 1) := dk_27 (dk_at dksX5_fill_0 21 rfl rfl)
theorem dX5_fill_22 : decode cX5_fill 22 = .ok (.aload_n 0, 1) := dk_42 (dk_at dksX5_fill_0 22 rfl rfl)
theorem dX5_fill_23 : decode cX5_fill 23 = .ok (.iload_n 2, 1) := dk_28 (dk_at dksX5_fill_0 23 rfl rfl)
theorem dX5_fill_24 : decode cX5_fill 24 = .ok (.invokevirtual 160, 3) := dk_182 0 160 (dk_at dksX5_fill_1 0 rfl rfl)
theorem dX5_fill_27 : decode cX5_fill 27 = .ok (.ior, 1) := dk_128 (dk_at dksX5_fill_1 3 rfl rfl)
theorem dX5_fill_28 : decode cX5_fill 28 = .ok (.istore_n 1, 1) := dk_60 (dk_at dksX5_fill_1 4 rfl rfl)
theorem dX5_fill_29 : decode cX5_fill 29 = .ok (.iinc 2 1, 3) := dk_132 2 1 (dk_at dksX5_fill_1 5 rfl rfl)
theorem dX5_fill_32 : decode cX5_fill 32 = .ok (.goto (-22), 3) := dk_167 255 234 (dk_at dksX5_fill_1 8 rfl rfl)
theorem dX5_fill_35 : decode cX5_fill 35 = .ok (.goto (-33), 3) := dk_167 255 223 (dk_at dksX5_fill_1 11 rfl rfl)
theorem dX5_fill_38 : decode cX5_fill 38 = .ok (.return_, 1) := dk_177 (dk_at dksX5_fill_1 14 rfl rfl)
abbrev cX5_fillLine : ByteArray := prog_4_method_25_code
def yX5_fillLine : MethodName := ⟨RX5, "fillLine", "(I)Z"⟩
def dkwX5_fillLine_3 : List UInt8 := [62, 42, 180, 0, 9, 21, 5, 21, 6, 79, 132, 4, 1, 167, 255, 182, 29, 172]
abbrev dktX5_fillLine_3 : List UInt8 := dkwX5_fillLine_3 ++ []
def dkwX5_fillLine_2 : List UInt8 := [104, 122, 126, 54, 6, 29, 21, 6, 42, 180, 0, 9, 21, 5, 46, 159, 0, 7, 4, 167, 0, 4, 3, 128]
abbrev dktX5_fillLine_2 : List UInt8 := dkwX5_fillLine_2 ++ dktX5_fillLine_3
def dkwX5_fillLine_1 : List UInt8 := [180, 0, 20, 180, 0, 50, 27, 50, 21, 4, 46, 54, 5, 42, 180, 0, 9, 21, 5, 46, 28, 8, 21, 4]
abbrev dktX5_fillLine_1 : List UInt8 := dkwX5_fillLine_1 ++ dktX5_fillLine_2
def dkwX5_fillLine_0 : List UInt8 := [42, 27, 182, 0, 95, 61, 3, 62, 3, 54, 4, 21, 4, 42, 180, 0, 20, 180, 0, 53, 162, 0, 68, 42]
abbrev dktX5_fillLine_0 : List UInt8 := dkwX5_fillLine_0 ++ dktX5_fillLine_1
theorem dksX5_fillLine_0 : cX5_fillLine.data.toList.drop 0 = dktX5_fillLine_0 := by decide +kernel
theorem dksX5_fillLine_1 : cX5_fillLine.data.toList.drop 24 = dktX5_fillLine_1 := dk_seg dksX5_fillLine_0 24 rfl rfl
theorem dksX5_fillLine_2 : cX5_fillLine.data.toList.drop 48 = dktX5_fillLine_2 := dk_seg dksX5_fillLine_1 24 rfl rfl
theorem dksX5_fillLine_3 : cX5_fillLine.data.toList.drop 72 = dktX5_fillLine_3 := dk_seg dksX5_fillLine_2 24 rfl rfl
theorem dX5_fillLine_0 : decode cX5_fillLine 0 = .ok (.aload_n 0, 1) := dk_42 (dk_at dksX5_fillLine_0 0 rfl rfl)
theorem dX5_fillLine_1 : decode cX5_fillLine 1 = .ok (.iload_n 1, 1) := dk_27 (dk_at dksX5_fillLine_0 1 rfl rfl)
theorem dX5_fillLine_2 : decode cX5_fillLine 2 = .ok (.invokevirtual 95, 3) := dk_182 0 95 (dk_at dksX5_fillLine_0 2 rfl rfl)
theorem dX5_fillLine_5 : decode cX5_fillLine 5 = .ok (.istore_n 2, 1) := dk_61 (dk_at dksX5_fillLine_0 5 rfl rfl)
theorem dX5_fillLine_6 : decode cX5_fillLine 6 = .ok (.iconst 0, 1) := dk_3 (dk_at dksX5_fillLine_0 6 rfl rfl)
theorem dX5_fillLine_7 : decode cX5_fillLine 7 = .ok (.istore_n 3, 1) := dk_62 (dk_at dksX5_fillLine_0 7 rfl rfl)
theorem dX5_fillLine_8 : decode cX5_fillLine 8 = .ok (.iconst 0, 1) := dk_3 (dk_at dksX5_fillLine_0 8 rfl rfl)
theorem dX5_fillLine_9 : decode cX5_fillLine 9 = .ok (.istore 4, 2) := dk_54 4 (dk_at dksX5_fillLine_0 9 rfl rfl)
theorem dX5_fillLine_11 : decode cX5_fillLine 11 = .ok (.iload 4, 2) := dk_21 4 (dk_at dksX5_fillLine_0 11 rfl rfl)
theorem dX5_fillLine_13 : decode cX5_fillLine 13 = .ok (.aload_n 0, 1) := dk_42 (dk_at dksX5_fillLine_0 13 rfl rfl)
theorem dX5_fillLine_14 : decode cX5_fillLine 14 = .ok (.getfield 20, 3) := dk_180 0 20 (dk_at dksX5_fillLine_0 14 rfl rfl)
theorem dX5_fillLine_17 : decode cX5_fillLine 17 = .ok (.getfield 53, 3) := dk_180 0 53 (dk_at dksX5_fillLine_0 17 rfl rfl)
theorem dX5_fillLine_20 : decode cX5_fillLine 20 = .ok (.if_icmp .ge 68, 3) := dk_162 0 68 (dk_at dksX5_fillLine_0 20 rfl rfl)
theorem dX5_fillLine_23 : decode cX5_fillLine 23 = .ok (.aload_n 0, 1) := dk_42 (dk_at dksX5_fillLine_0 23 rfl rfl)
theorem dX5_fillLine_24 : decode cX5_fillLine 24 = .ok (.getfield 20, 3) := dk_180 0 20 (dk_at dksX5_fillLine_1 0 rfl rfl)
theorem dX5_fillLine_27 : decode cX5_fillLine 27 = .ok (.getfield 50, 3) := dk_180 0 50 (dk_at dksX5_fillLine_1 3 rfl rfl)
theorem dX5_fillLine_30 : decode cX5_fillLine 30 = .ok (.iload_n 1, 1) := dk_27 (dk_at dksX5_fillLine_1 6 rfl rfl)
theorem dX5_fillLine_31 : decode cX5_fillLine 31 = .ok (.aaload, 1) := dk_50 (dk_at dksX5_fillLine_1 7 rfl rfl)
theorem dX5_fillLine_32 : decode cX5_fillLine 32 = .ok (.iload 4, 2) := dk_21 4 (dk_at dksX5_fillLine_1 8 rfl rfl)
theorem dX5_fillLine_34 : decode cX5_fillLine 34 = .ok (.iaload, 1) := dk_46 (dk_at dksX5_fillLine_1 10 rfl rfl)
theorem dX5_fillLine_35 : decode cX5_fillLine 35 = .ok (.istore 5, 2) := dk_54 5 (dk_at dksX5_fillLine_1 11 rfl rfl)
theorem dX5_fillLine_37 : decode cX5_fillLine 37 = .ok (.aload_n 0, 1) := dk_42 (dk_at dksX5_fillLine_1 13 rfl rfl)
theorem dX5_fillLine_38 : decode cX5_fillLine 38 = .ok (.getfield 9, 3) := dk_180 0 9 (dk_at dksX5_fillLine_1 14 rfl rfl)
theorem dX5_fillLine_41 : decode cX5_fillLine 41 = .ok (.iload 5, 2) := dk_21 5 (dk_at dksX5_fillLine_1 17 rfl rfl)
theorem dX5_fillLine_43 : decode cX5_fillLine 43 = .ok (.iaload, 1) := dk_46 (dk_at dksX5_fillLine_1 19 rfl rfl)
theorem dX5_fillLine_44 : decode cX5_fillLine 44 = .ok (.iload_n 2, 1) := dk_28 (dk_at dksX5_fillLine_1 20 rfl rfl)
theorem dX5_fillLine_45 : decode cX5_fillLine 45 = .ok (.iconst 5, 1) := dk_8 (dk_at dksX5_fillLine_1 21 rfl rfl)
theorem dX5_fillLine_46 : decode cX5_fillLine 46 = .ok (.iload 4, 2) := dk_21 4 (dk_at dksX5_fillLine_1 22 rfl rfl)
theorem dX5_fillLine_48 : decode cX5_fillLine 48 = .ok (.imul, 1) := dk_104 (dk_at dksX5_fillLine_2 0 rfl rfl)
theorem dX5_fillLine_49 : decode cX5_fillLine 49 = .ok (.ishr, 1) := dk_122 (dk_at dksX5_fillLine_2 1 rfl rfl)
theorem dX5_fillLine_50 : decode cX5_fillLine 50 = .ok (.iand, 1) := dk_126 (dk_at dksX5_fillLine_2 2 rfl rfl)
theorem dX5_fillLine_51 : decode cX5_fillLine 51 = .ok (.istore 6, 2) := dk_54 6 (dk_at dksX5_fillLine_2 3 rfl rfl)
theorem dX5_fillLine_53 : decode cX5_fillLine 53 = .ok (.iload_n 3, 1) := dk_29 (dk_at dksX5_fillLine_2 5 rfl rfl)
theorem dX5_fillLine_54 : decode cX5_fillLine 54 = .ok (.iload 6, 2) := dk_21 6 (dk_at dksX5_fillLine_2 6 rfl rfl)
theorem dX5_fillLine_56 : decode cX5_fillLine 56 = .ok (.aload_n 0, 1) := dk_42 (dk_at dksX5_fillLine_2 8 rfl rfl)
theorem dX5_fillLine_57 : decode cX5_fillLine 57 = .ok (.getfield 9, 3) := dk_180 0 9 (dk_at dksX5_fillLine_2 9 rfl rfl)
theorem dX5_fillLine_60 : decode cX5_fillLine 60 = .ok (.iload 5, 2) := dk_21 5 (dk_at dksX5_fillLine_2 12 rfl rfl)
theorem dX5_fillLine_62 : decode cX5_fillLine 62 = .ok (.iaload, 1) := dk_46 (dk_at dksX5_fillLine_2 14 rfl rfl)
theorem dX5_fillLine_63 : decode cX5_fillLine 63 = .ok (.if_icmp .eq 7, 3) := dk_159 0 7 (dk_at dksX5_fillLine_2 15 rfl rfl)
theorem dX5_fillLine_66 : decode cX5_fillLine 66 = .ok (.iconst 1, 1) := dk_4 (dk_at dksX5_fillLine_2 18 rfl rfl)
theorem dX5_fillLine_67 : decode cX5_fillLine 67 = .ok (.goto 4, 3) := dk_167 0 4 (dk_at dksX5_fillLine_2 19 rfl rfl)
theorem dX5_fillLine_70 : decode cX5_fillLine 70 = .ok (.iconst 0, 1) := dk_3 (dk_at dksX5_fillLine_2 22 rfl rfl)
theorem dX5_fillLine_71 : decode cX5_fillLine 71 = .ok (.ior, 1) := dk_128 (dk_at dksX5_fillLine_2 23 rfl rfl)
theorem dX5_fillLine_72 : decode cX5_fillLine 72 = .ok (.istore_n 3, 1) := dk_62 (dk_at dksX5_fillLine_3 0 rfl rfl)
theorem dX5_fillLine_73 : decode cX5_fillLine 73 = .ok (.aload_n 0, 1) := dk_42 (dk_at dksX5_fillLine_3 1 rfl rfl)
theorem dX5_fillLine_74 : decode cX5_fillLine 74 = .ok (.getfield 9, 3) := dk_180 0 9 (dk_at dksX5_fillLine_3 2 rfl rfl)
theorem dX5_fillLine_77 : decode cX5_fillLine 77 = .ok (.iload 5, 2) := dk_21 5 (dk_at dksX5_fillLine_3 5 rfl rfl)
theorem dX5_fillLine_79 : decode cX5_fillLine 79 = .ok (.iload 6, 2) := dk_21 6 (dk_at dksX5_fillLine_3 7 rfl rfl)
theorem dX5_fillLine_81 : decode cX5_fillLine 81 = .ok (.iastore, 1) := dk_79 (dk_at dksX5_fillLine_3 9 rfl rfl)
theorem dX5_fillLine_82 : decode cX5_fillLine 82 = .ok (.iinc 4 1, 3) := dk_132 4 1 (dk_at dksX5_fillLine_3 10 rfl rfl)
theorem dX5_fillLine_85 : decode cX5_fillLine 85 = .ok (.goto (-74), 3) := dk_167 255 182 (dk_at dksX5_fillLine_3 13 rfl rfl)
theorem dX5_fillLine_88 : decode cX5_fillLine 88 = .ok (.iload_n 3, 1) := dk_29 (dk_at dksX5_fillLine_3 16 rfl rfl)
theorem dX5_fillLine_89 : decode cX5_fillLine 89 = .ok (.ireturn, 1) := dk_172 (dk_at dksX5_fillLine_3 17 rfl rfl)
abbrev cX5_linePossible : ByteArray := prog_4_method_9_code
def yX5_linePossible : MethodName := ⟨RX5, "linePossible", "(I)I"⟩
def dkwX5_linePossible_4 : List UInt8 := [28, 172]
abbrev dktX5_linePossible_4 : List UInt8 := dkwX5_linePossible_4 ++ []
def dkwX5_linePossible_3 : List UInt8 := [21, 5, 104, 25, 4, 21, 5, 46, 96, 120, 128, 61, 132, 5, 1, 167, 255, 226, 132, 3, 1, 167, 255, 170]
abbrev dktX5_linePossible_3 : List UInt8 := dkwX5_linePossible_3 ++ dktX5_linePossible_4
def dkwX5_linePossible_2 : List UInt8 := [180, 0, 20, 180, 0, 53, 54, 5, 21, 5, 42, 180, 0, 20, 180, 0, 53, 162, 0, 24, 28, 4, 8]
abbrev dktX5_linePossible_2 : List UInt8 := dkwX5_linePossible_2 ++ dktX5_linePossible_3
def dkwX5_linePossible_1 : List UInt8 := [180, 0, 64, 29, 182, 0, 91, 58, 4, 42, 27, 25, 4, 182, 0, 85, 153, 0, 7, 3, 167, 0, 10, 42]
abbrev dktX5_linePossible_1 : List UInt8 := dkwX5_linePossible_1 ++ dktX5_linePossible_2
def dkwX5_linePossible_0 : List UInt8 := [3, 61, 3, 62, 29, 42, 180, 0, 20, 180, 0, 64, 182, 0, 88, 162, 0, 78, 42, 180, 0, 20]
abbrev dktX5_linePossible_0 : List UInt8 := dkwX5_linePossible_0 ++ dktX5_linePossible_1
theorem dksX5_linePossible_0 : cX5_linePossible.data.toList.drop 0 = dktX5_linePossible_0 := by decide +kernel
theorem dksX5_linePossible_1 : cX5_linePossible.data.toList.drop 22 = dktX5_linePossible_1 := dk_seg dksX5_linePossible_0 22 rfl rfl
theorem dksX5_linePossible_2 : cX5_linePossible.data.toList.drop 46 = dktX5_linePossible_2 := dk_seg dksX5_linePossible_1 24 rfl rfl
theorem dksX5_linePossible_3 : cX5_linePossible.data.toList.drop 69 = dktX5_linePossible_3 := dk_seg dksX5_linePossible_2 23 rfl rfl
theorem dksX5_linePossible_4 : cX5_linePossible.data.toList.drop 93 = dktX5_linePossible_4 := dk_seg dksX5_linePossible_3 24 rfl rfl
theorem dX5_linePossible_0 : decode cX5_linePossible 0 = .ok (.iconst 0, 1) := dk_3 (dk_at dksX5_linePossible_0 0 rfl rfl)
theorem dX5_linePossible_1 : decode cX5_linePossible 1 = .ok (.istore_n 2, 1) := dk_61 (dk_at dksX5_linePossible_0 1 rfl rfl)
theorem dX5_linePossible_2 : decode cX5_linePossible 2 = .ok (.iconst 0, 1) := dk_3 (dk_at dksX5_linePossible_0 2 rfl rfl)
theorem dX5_linePossible_3 : decode cX5_linePossible 3 = .ok (.istore_n 3, 1) := dk_62 (dk_at dksX5_linePossible_0 3 rfl rfl)
theorem dX5_linePossible_4 : decode cX5_linePossible 4 = .ok (.iload_n 3, 1) := dk_29 (dk_at dksX5_linePossible_0 4 rfl rfl)
theorem dX5_linePossible_5 : decode cX5_linePossible 5 = .ok (.aload_n 0, 1) := dk_42 (dk_at dksX5_linePossible_0 5 rfl rfl)
theorem dX5_linePossible_6 : decode cX5_linePossible 6 = .ok (.getfield 20, 3) := dk_180 0 20 (dk_at dksX5_linePossible_0 6 rfl rfl)
theorem dX5_linePossible_9 : decode cX5_linePossible 9 = .ok (.getfield 64, 3) := dk_180 0 64 (dk_at dksX5_linePossible_0 9 rfl rfl)
theorem dX5_linePossible_12 : decode cX5_linePossible 12 = .ok (.invokevirtual 88, 3) := dk_182 0 88 (dk_at dksX5_linePossible_0 12 rfl rfl)
theorem dX5_linePossible_15 : decode cX5_linePossible 15 = .ok (.if_icmp .ge 78, 3) := dk_162 0 78 (dk_at dksX5_linePossible_0 15 rfl rfl)
theorem dX5_linePossible_18 : decode cX5_linePossible 18 = .ok (.aload_n 0, 1) := dk_42 (dk_at dksX5_linePossible_0 18 rfl rfl)
theorem dX5_linePossible_19 : decode cX5_linePossible 19 = .ok (.getfield 20, 3) := dk_180 0 20 (dk_at dksX5_linePossible_0 19 rfl rfl)
theorem dX5_linePossible_22 : decode cX5_linePossible 22 = .ok (.getfield 64, 3) := dk_180 0 64 (dk_at dksX5_linePossible_1 0 rfl rfl)
theorem dX5_linePossible_25 : decode cX5_linePossible 25 = .ok (.iload_n 3, 1) := dk_29 (dk_at dksX5_linePossible_1 3 rfl rfl)
theorem dX5_linePossible_26 : decode cX5_linePossible 26 = .ok (.invokevirtual 91, 3) := dk_182 0 91 (dk_at dksX5_linePossible_1 4 rfl rfl)
theorem dX5_linePossible_29 : decode cX5_linePossible 29 = .ok (.astore 4, 2) := dk_58 4 (dk_at dksX5_linePossible_1 7 rfl rfl)
theorem dX5_linePossible_31 : decode cX5_linePossible 31 = .ok (.aload_n 0, 1) := dk_42 (dk_at dksX5_linePossible_1 9 rfl rfl)
theorem dX5_linePossible_32 : decode cX5_linePossible 32 = .ok (.iload_n 1, 1) := dk_27 (dk_at dksX5_linePossible_1 10 rfl rfl)
theorem dX5_linePossible_33 : decode cX5_linePossible 33 = .ok (.aload 4, 2) := dk_25 4 (dk_at dksX5_linePossible_1 11 rfl rfl)
theorem dX5_linePossible_35 : decode cX5_linePossible 35 = .ok (.invokevirtual 85, 3) := dk_182 0 85 (dk_at dksX5_linePossible_1 13 rfl rfl)
theorem dX5_linePossible_38 : decode cX5_linePossible 38 = .ok (.ifCond .eq 7, 3) := dk_153 0 7 (dk_at dksX5_linePossible_1 16 rfl rfl)
theorem dX5_linePossible_41 : decode cX5_linePossible 41 = .ok (.iconst 0, 1) := dk_3 (dk_at dksX5_linePossible_1 19 rfl rfl)
theorem dX5_linePossible_42 : decode cX5_linePossible 42 = .ok (.goto 10, 3) := dk_167 0 10 (dk_at dksX5_linePossible_1 20 rfl rfl)
theorem dX5_linePossible_45 : decode cX5_linePossible 45 = .ok (.aload_n 0, 1) := dk_42 (dk_at dksX5_linePossible_1 23 rfl rfl)
theorem dX5_linePossible_46 : decode cX5_linePossible 46 = .ok (.getfield 20, 3) := dk_180 0 20 (dk_at dksX5_linePossible_2 0 rfl rfl)
theorem dX5_linePossible_49 : decode cX5_linePossible 49 = .ok (.getfield 53, 3) := dk_180 0 53 (dk_at dksX5_linePossible_2 3 rfl rfl)
theorem dX5_linePossible_52 : decode cX5_linePossible 52 = .ok (.istore 5, 2) := dk_54 5 (dk_at dksX5_linePossible_2 6 rfl rfl)
theorem dX5_linePossible_54 : decode cX5_linePossible 54 = .ok (.iload 5, 2) := dk_21 5 (dk_at dksX5_linePossible_2 8 rfl rfl)
theorem dX5_linePossible_56 : decode cX5_linePossible 56 = .ok (.aload_n 0, 1) := dk_42 (dk_at dksX5_linePossible_2 10 rfl rfl)
theorem dX5_linePossible_57 : decode cX5_linePossible 57 = .ok (.getfield 20, 3) := dk_180 0 20 (dk_at dksX5_linePossible_2 11 rfl rfl)
theorem dX5_linePossible_60 : decode cX5_linePossible 60 = .ok (.getfield 53, 3) := dk_180 0 53 (dk_at dksX5_linePossible_2 14 rfl rfl)
theorem dX5_linePossible_63 : decode cX5_linePossible 63 = .ok (.if_icmp .ge 24, 3) := dk_162 0 24 (dk_at dksX5_linePossible_2 17 rfl rfl)
theorem dX5_linePossible_66 : decode cX5_linePossible 66 = .ok (.iload_n 2, 1) := dk_28 (dk_at dksX5_linePossible_2 20 rfl rfl)
theorem dX5_linePossible_67 : decode cX5_linePossible 67 = .ok (.iconst 1, 1) := dk_4 (dk_at dksX5_linePossible_2 21 rfl rfl)
theorem dX5_linePossible_68 : decode cX5_linePossible 68 = .ok (.iconst 5, 1) := dk_8 (dk_at dksX5_linePossible_2 22 rfl rfl)
theorem dX5_linePossible_69 : decode cX5_linePossible 69 = .ok (.iload 5, 2) := dk_21 5 (dk_at dksX5_linePossible_3 0 rfl rfl)
theorem dX5_linePossible_71 : decode cX5_linePossible 71 = .ok (.imul, 1) := dk_104 (dk_at dksX5_linePossible_3 2 rfl rfl)
theorem dX5_linePossible_72 : decode cX5_linePossible 72 = .ok (.aload 4, 2) := dk_25 4 (dk_at dksX5_linePossible_3 3 rfl rfl)
theorem dX5_linePossible_74 : decode cX5_linePossible 74 = .ok (.iload 5, 2) := dk_21 5 (dk_at dksX5_linePossible_3 5 rfl rfl)
theorem dX5_linePossible_76 : decode cX5_linePossible 76 = .ok (.iaload, 1) := dk_46 (dk_at dksX5_linePossible_3 7 rfl rfl)
theorem dX5_linePossible_77 : decode cX5_linePossible 77 = .ok (.iadd, 1) := dk_96 (dk_at dksX5_linePossible_3 8 rfl rfl)
theorem dX5_linePossible_78 : decode cX5_linePossible 78 = .ok (.ishl, 1) := dk_120 (dk_at dksX5_linePossible_3 9 rfl rfl)
theorem dX5_linePossible_79 : decode cX5_linePossible 79 = .ok (.ior, 1) := dk_128 (dk_at dksX5_linePossible_3 10 rfl rfl)
theorem dX5_linePossible_80 : decode cX5_linePossible 80 = .ok (.istore_n 2, 1) := dk_61 (dk_at dksX5_linePossible_3 11 rfl rfl)
theorem dX5_linePossible_81 : decode cX5_linePossible 81 = .ok (.iinc 5 1, 3) := dk_132 5 1 (dk_at dksX5_linePossible_3 12 rfl rfl)
theorem dX5_linePossible_84 : decode cX5_linePossible 84 = .ok (.goto (-30), 3) := dk_167 255 226 (dk_at dksX5_linePossible_3 15 rfl rfl)
theorem dX5_linePossible_87 : decode cX5_linePossible 87 = .ok (.iinc 3 1, 3) := dk_132 3 1 (dk_at dksX5_linePossible_3 18 rfl rfl)
theorem dX5_linePossible_90 : decode cX5_linePossible 90 = .ok (.goto (-86), 3) := dk_167 255 170 (dk_at dksX5_linePossible_3 21 rfl rfl)
theorem dX5_linePossible_93 : decode cX5_linePossible 93 = .ok (.iload_n 2, 1) := dk_28 (dk_at dksX5_linePossible_4 0 rfl rfl)
theorem dX5_linePossible_94 : decode cX5_linePossible 94 = .ok (.ireturn, 1) := dk_172 (dk_at dksX5_linePossible_4 1 rfl rfl)
abbrev cX5_holdsIn : ByteArray := prog_4_method_22_code
def yX5_holdsIn : MethodName := ⟨RX5, "holdsIn", "(IIII)Z"⟩
def dkwX5_holdsIn_5 : List UInt8 := [154, 0, 7, 4, 167, 0, 4, 3, 172]
abbrev dktX5_holdsIn_5 : List UInt8 := dkwX5_holdsIn_5 ++ []
def dkwX5_holdsIn_4 : List UInt8 := [27, 29, 21, 4, 182, 0, 147, 172, 42, 27, 42, 27, 29, 182, 0, 126, 182, 0, 150, 21, 4, 184, 0, 56]
abbrev dktX5_holdsIn_4 : List UInt8 := dkwX5_holdsIn_4 ++ dktX5_holdsIn_5
def dkwX5_holdsIn_3 : List UInt8 := [167, 0, 4, 3, 172, 42, 27, 29, 21, 4, 182, 0, 140, 172, 42, 27, 29, 21, 4, 182, 0, 144, 172, 42]
abbrev dktX5_holdsIn_3 : List UInt8 := dkwX5_holdsIn_3 ++ dktX5_holdsIn_4
def dkwX5_holdsIn_2 : List UInt8 := [21, 4, 42, 180, 0, 20, 180, 0, 28, 162, 0, 18, 42, 27, 21, 4, 29, 182, 0, 133, 153, 0, 7, 4]
abbrev dktX5_holdsIn_2 : List UInt8 := dkwX5_holdsIn_2 ++ dktX5_holdsIn_3
def dkwX5_holdsIn_1 : List UInt8 := [170, 0, 0, 0, 0, 0, 87, 0, 0, 0, 1, 0, 0, 0, 4, 0, 0, 0, 31, 0, 0, 0, 60, 0, 0, 0, 69, 0, 0, 0, 78]
abbrev dktX5_holdsIn_1 : List UInt8 := dkwX5_holdsIn_1 ++ dktX5_holdsIn_2
def dkwX5_holdsIn_0 : List UInt8 := [28]
abbrev dktX5_holdsIn_0 : List UInt8 := dkwX5_holdsIn_0 ++ dktX5_holdsIn_1
theorem dksX5_holdsIn_0 : cX5_holdsIn.data.toList.drop 0 = dktX5_holdsIn_0 := by decide +kernel
theorem dksX5_holdsIn_1 : cX5_holdsIn.data.toList.drop 1 = dktX5_holdsIn_1 := dk_seg dksX5_holdsIn_0 1 rfl rfl
theorem dksX5_holdsIn_2 : cX5_holdsIn.data.toList.drop 32 = dktX5_holdsIn_2 := dk_seg dksX5_holdsIn_1 31 rfl rfl
theorem dksX5_holdsIn_3 : cX5_holdsIn.data.toList.drop 56 = dktX5_holdsIn_3 := dk_seg dksX5_holdsIn_2 24 rfl rfl
theorem dksX5_holdsIn_4 : cX5_holdsIn.data.toList.drop 80 = dktX5_holdsIn_4 := dk_seg dksX5_holdsIn_3 24 rfl rfl
theorem dksX5_holdsIn_5 : cX5_holdsIn.data.toList.drop 104 = dktX5_holdsIn_5 := dk_seg dksX5_holdsIn_4 24 rfl rfl
theorem dX5_holdsIn_0 : decode cX5_holdsIn 0 = .ok (.iload_n 2, 1) := dk_28 (dk_at dksX5_holdsIn_0 0 rfl rfl)
theorem dX5_holdsIn_1 : decode cX5_holdsIn 1 = .ok (.tableswitch 87 1 4 #[31, 60, 69, 78], 31) := by decide +kernel
theorem dX5_holdsIn_32 : decode cX5_holdsIn 32 = .ok (.iload 4, 2) := dk_21 4 (dk_at dksX5_holdsIn_2 0 rfl rfl)
theorem dX5_holdsIn_34 : decode cX5_holdsIn 34 = .ok (.aload_n 0, 1) := dk_42 (dk_at dksX5_holdsIn_2 2 rfl rfl)
theorem dX5_holdsIn_35 : decode cX5_holdsIn 35 = .ok (.getfield 20, 3) := dk_180 0 20 (dk_at dksX5_holdsIn_2 3 rfl rfl)
theorem dX5_holdsIn_38 : decode cX5_holdsIn 38 = .ok (.getfield 28, 3) := dk_180 0 28 (dk_at dksX5_holdsIn_2 6 rfl rfl)
theorem dX5_holdsIn_41 : decode cX5_holdsIn 41 = .ok (.if_icmp .ge 18, 3) := dk_162 0 18 (dk_at dksX5_holdsIn_2 9 rfl rfl)
theorem dX5_holdsIn_44 : decode cX5_holdsIn 44 = .ok (.aload_n 0, 1) := dk_42 (dk_at dksX5_holdsIn_2 12 rfl rfl)
theorem dX5_holdsIn_45 : decode cX5_holdsIn 45 = .ok (.iload_n 1, 1) := dk_27 (dk_at dksX5_holdsIn_2 13 rfl rfl)
theorem dX5_holdsIn_46 : decode cX5_holdsIn 46 = .ok (.iload 4, 2) := dk_21 4 (dk_at dksX5_holdsIn_2 14 rfl rfl)
theorem dX5_holdsIn_48 : decode cX5_holdsIn 48 = .ok (.iload_n 3, 1) := dk_29 (dk_at dksX5_holdsIn_2 16 rfl rfl)
theorem dX5_holdsIn_49 : decode cX5_holdsIn 49 = .ok (.invokevirtual 133, 3) := dk_182 0 133 (dk_at dksX5_holdsIn_2 17 rfl rfl)
theorem dX5_holdsIn_52 : decode cX5_holdsIn 52 = .ok (.ifCond .eq 7, 3) := dk_153 0 7 (dk_at dksX5_holdsIn_2 20 rfl rfl)
theorem dX5_holdsIn_55 : decode cX5_holdsIn 55 = .ok (.iconst 1, 1) := dk_4 (dk_at dksX5_holdsIn_2 23 rfl rfl)
theorem dX5_holdsIn_56 : decode cX5_holdsIn 56 = .ok (.goto 4, 3) := dk_167 0 4 (dk_at dksX5_holdsIn_3 0 rfl rfl)
theorem dX5_holdsIn_59 : decode cX5_holdsIn 59 = .ok (.iconst 0, 1) := dk_3 (dk_at dksX5_holdsIn_3 3 rfl rfl)
theorem dX5_holdsIn_60 : decode cX5_holdsIn 60 = .ok (.ireturn, 1) := dk_172 (dk_at dksX5_holdsIn_3 4 rfl rfl)
theorem dX5_holdsIn_61 : decode cX5_holdsIn 61 = .ok (.aload_n 0, 1) := dk_42 (dk_at dksX5_holdsIn_3 5 rfl rfl)
theorem dX5_holdsIn_62 : decode cX5_holdsIn 62 = .ok (.iload_n 1, 1) := dk_27 (dk_at dksX5_holdsIn_3 6 rfl rfl)
theorem dX5_holdsIn_63 : decode cX5_holdsIn 63 = .ok (.iload_n 3, 1) := dk_29 (dk_at dksX5_holdsIn_3 7 rfl rfl)
theorem dX5_holdsIn_64 : decode cX5_holdsIn 64 = .ok (.iload 4, 2) := dk_21 4 (dk_at dksX5_holdsIn_3 8 rfl rfl)
theorem dX5_holdsIn_66 : decode cX5_holdsIn 66 = .ok (.invokevirtual 140, 3) := dk_182 0 140 (dk_at dksX5_holdsIn_3 10 rfl rfl)
theorem dX5_holdsIn_69 : decode cX5_holdsIn 69 = .ok (.ireturn, 1) := dk_172 (dk_at dksX5_holdsIn_3 13 rfl rfl)
theorem dX5_holdsIn_70 : decode cX5_holdsIn 70 = .ok (.aload_n 0, 1) := dk_42 (dk_at dksX5_holdsIn_3 14 rfl rfl)
theorem dX5_holdsIn_71 : decode cX5_holdsIn 71 = .ok (.iload_n 1, 1) := dk_27 (dk_at dksX5_holdsIn_3 15 rfl rfl)
theorem dX5_holdsIn_72 : decode cX5_holdsIn 72 = .ok (.iload_n 3, 1) := dk_29 (dk_at dksX5_holdsIn_3 16 rfl rfl)
theorem dX5_holdsIn_73 : decode cX5_holdsIn 73 = .ok (.iload 4, 2) := dk_21 4 (dk_at dksX5_holdsIn_3 17 rfl rfl)
theorem dX5_holdsIn_75 : decode cX5_holdsIn 75 = .ok (.invokevirtual 144, 3) := dk_182 0 144 (dk_at dksX5_holdsIn_3 19 rfl rfl)
theorem dX5_holdsIn_78 : decode cX5_holdsIn 78 = .ok (.ireturn, 1) := dk_172 (dk_at dksX5_holdsIn_3 22 rfl rfl)
theorem dX5_holdsIn_79 : decode cX5_holdsIn 79 = .ok (.aload_n 0, 1) := dk_42 (dk_at dksX5_holdsIn_3 23 rfl rfl)
theorem dX5_holdsIn_80 : decode cX5_holdsIn 80 = .ok (.iload_n 1, 1) := dk_27 (dk_at dksX5_holdsIn_4 0 rfl rfl)
theorem dX5_holdsIn_81 : decode cX5_holdsIn 81 = .ok (.iload_n 3, 1) := dk_29 (dk_at dksX5_holdsIn_4 1 rfl rfl)
theorem dX5_holdsIn_82 : decode cX5_holdsIn 82 = .ok (.iload 4, 2) := dk_21 4 (dk_at dksX5_holdsIn_4 2 rfl rfl)
theorem dX5_holdsIn_84 : decode cX5_holdsIn 84 = .ok (.invokevirtual 147, 3) := dk_182 0 147 (dk_at dksX5_holdsIn_4 4 rfl rfl)
theorem dX5_holdsIn_87 : decode cX5_holdsIn 87 = .ok (.ireturn, 1) := dk_172 (dk_at dksX5_holdsIn_4 7 rfl rfl)
theorem dX5_holdsIn_88 : decode cX5_holdsIn 88 = .ok (.aload_n 0, 1) := dk_42 (dk_at dksX5_holdsIn_4 8 rfl rfl)
theorem dX5_holdsIn_89 : decode cX5_holdsIn 89 = .ok (.iload_n 1, 1) := dk_27 (dk_at dksX5_holdsIn_4 9 rfl rfl)
theorem dX5_holdsIn_90 : decode cX5_holdsIn 90 = .ok (.aload_n 0, 1) := dk_42 (dk_at dksX5_holdsIn_4 10 rfl rfl)
theorem dX5_holdsIn_91 : decode cX5_holdsIn 91 = .ok (.iload_n 1, 1) := dk_27 (dk_at dksX5_holdsIn_4 11 rfl rfl)
theorem dX5_holdsIn_92 : decode cX5_holdsIn 92 = .ok (.iload_n 3, 1) := dk_29 (dk_at dksX5_holdsIn_4 12 rfl rfl)
theorem dX5_holdsIn_93 : decode cX5_holdsIn 93 = .ok (.invokevirtual 126, 3) := dk_182 0 126 (dk_at dksX5_holdsIn_4 13 rfl rfl)
theorem dX5_holdsIn_96 : decode cX5_holdsIn 96 = .ok (.invokevirtual 150, 3) := dk_182 0 150 (dk_at dksX5_holdsIn_4 16 rfl rfl)
theorem dX5_holdsIn_99 : decode cX5_holdsIn 99 = .ok (.iload 4, 2) := dk_21 4 (dk_at dksX5_holdsIn_4 19 rfl rfl)
theorem dX5_holdsIn_101 : decode cX5_holdsIn 101 = .ok (.invokestatic 56, 3) := dk_184 0 56 (dk_at dksX5_holdsIn_4 21 rfl rfl)
theorem dX5_holdsIn_104 : decode cX5_holdsIn 104 = .ok (.ifCond .ne 7, 3) := dk_154 0 7 (dk_at dksX5_holdsIn_5 0 rfl rfl)
theorem dX5_holdsIn_107 : decode cX5_holdsIn 107 = .ok (.iconst 1, 1) := dk_4 (dk_at dksX5_holdsIn_5 3 rfl rfl)
theorem dX5_holdsIn_108 : decode cX5_holdsIn 108 = .ok (.goto 4, 3) := dk_167 0 4 (dk_at dksX5_holdsIn_5 4 rfl rfl)
theorem dX5_holdsIn_111 : decode cX5_holdsIn 111 = .ok (.iconst 0, 1) := dk_3 (dk_at dksX5_holdsIn_5 7 rfl rfl)
theorem dX5_holdsIn_112 : decode cX5_holdsIn 112 = .ok (.ireturn, 1) := dk_172 (dk_at dksX5_holdsIn_5 8 rfl rfl)
abbrev cX5_settledWith : ByteArray := prog_4_method_17_code
def yX5_settledWith : MethodName := ⟨RX5, "settledWith", "(III)I"⟩
def dkwX5_settledWith_3 : List UInt8 := [21, 4, 172]
abbrev dktX5_settledWith_3 : List UInt8 := dkwX5_settledWith_3 ++ []
def dkwX5_settledWith_2 : List UInt8 := [46, 4, 28, 120, 160, 0, 10, 4, 21, 5, 120, 167, 0, 4, 3, 128, 54, 4, 132, 5, 1, 167, 255, 195]
abbrev dktX5_settledWith_2 : List UInt8 := dkwX5_settledWith_2 ++ dktX5_settledWith_3
def dkwX5_settledWith_1 : List UInt8 := [180, 0, 50, 27, 50, 21, 5, 46, 54, 6, 21, 4, 21, 6, 29, 159, 0, 23, 42, 180, 0, 9, 21, 6]
abbrev dktX5_settledWith_1 : List UInt8 := dkwX5_settledWith_1 ++ dktX5_settledWith_2
def dkwX5_settledWith_0 : List UInt8 := [3, 54, 4, 3, 54, 5, 21, 5, 42, 180, 0, 20, 180, 0, 53, 162, 0, 55, 42, 180, 0, 20]
abbrev dktX5_settledWith_0 : List UInt8 := dkwX5_settledWith_0 ++ dktX5_settledWith_1
theorem dksX5_settledWith_0 : cX5_settledWith.data.toList.drop 0 = dktX5_settledWith_0 := by decide +kernel
theorem dksX5_settledWith_1 : cX5_settledWith.data.toList.drop 22 = dktX5_settledWith_1 := dk_seg dksX5_settledWith_0 22 rfl rfl
theorem dksX5_settledWith_2 : cX5_settledWith.data.toList.drop 46 = dktX5_settledWith_2 := dk_seg dksX5_settledWith_1 24 rfl rfl
theorem dksX5_settledWith_3 : cX5_settledWith.data.toList.drop 70 = dktX5_settledWith_3 := dk_seg dksX5_settledWith_2 24 rfl rfl
theorem dX5_settledWith_0 : decode cX5_settledWith 0 = .ok (.iconst 0, 1) := dk_3 (dk_at dksX5_settledWith_0 0 rfl rfl)
theorem dX5_settledWith_1 : decode cX5_settledWith 1 = .ok (.istore 4, 2) := dk_54 4 (dk_at dksX5_settledWith_0 1 rfl rfl)
theorem dX5_settledWith_3 : decode cX5_settledWith 3 = .ok (.iconst 0, 1) := dk_3 (dk_at dksX5_settledWith_0 3 rfl rfl)
theorem dX5_settledWith_4 : decode cX5_settledWith 4 = .ok (.istore 5, 2) := dk_54 5 (dk_at dksX5_settledWith_0 4 rfl rfl)
theorem dX5_settledWith_6 : decode cX5_settledWith 6 = .ok (.iload 5, 2) := dk_21 5 (dk_at dksX5_settledWith_0 6 rfl rfl)
theorem dX5_settledWith_8 : decode cX5_settledWith 8 = .ok (.aload_n 0, 1) := dk_42 (dk_at dksX5_settledWith_0 8 rfl rfl)
theorem dX5_settledWith_9 : decode cX5_settledWith 9 = .ok (.getfield 20, 3) := dk_180 0 20 (dk_at dksX5_settledWith_0 9 rfl rfl)
theorem dX5_settledWith_12 : decode cX5_settledWith 12 = .ok (.getfield 53, 3) := dk_180 0 53 (dk_at dksX5_settledWith_0 12 rfl rfl)
theorem dX5_settledWith_15 : decode cX5_settledWith 15 = .ok (.if_icmp .ge 55, 3) := dk_162 0 55 (dk_at dksX5_settledWith_0 15 rfl rfl)
theorem dX5_settledWith_18 : decode cX5_settledWith 18 = .ok (.aload_n 0, 1) := dk_42 (dk_at dksX5_settledWith_0 18 rfl rfl)
theorem dX5_settledWith_19 : decode cX5_settledWith 19 = .ok (.getfield 20, 3) := dk_180 0 20 (dk_at dksX5_settledWith_0 19 rfl rfl)
theorem dX5_settledWith_22 : decode cX5_settledWith 22 = .ok (.getfield 50, 3) := dk_180 0 50 (dk_at dksX5_settledWith_1 0 rfl rfl)
theorem dX5_settledWith_25 : decode cX5_settledWith 25 = .ok (.iload_n 1, 1) := dk_27 (dk_at dksX5_settledWith_1 3 rfl rfl)
theorem dX5_settledWith_26 : decode cX5_settledWith 26 = .ok (.aaload, 1) := dk_50 (dk_at dksX5_settledWith_1 4 rfl rfl)
theorem dX5_settledWith_27 : decode cX5_settledWith 27 = .ok (.iload 5, 2) := dk_21 5 (dk_at dksX5_settledWith_1 5 rfl rfl)
theorem dX5_settledWith_29 : decode cX5_settledWith 29 = .ok (.iaload, 1) := dk_46 (dk_at dksX5_settledWith_1 7 rfl rfl)
theorem dX5_settledWith_30 : decode cX5_settledWith 30 = .ok (.istore 6, 2) := dk_54 6 (dk_at dksX5_settledWith_1 8 rfl rfl)
theorem dX5_settledWith_32 : decode cX5_settledWith 32 = .ok (.iload 4, 2) := dk_21 4 (dk_at dksX5_settledWith_1 10 rfl rfl)
theorem dX5_settledWith_34 : decode cX5_settledWith 34 = .ok (.iload 6, 2) := dk_21 6 (dk_at dksX5_settledWith_1 12 rfl rfl)
theorem dX5_settledWith_36 : decode cX5_settledWith 36 = .ok (.iload_n 3, 1) := dk_29 (dk_at dksX5_settledWith_1 14 rfl rfl)
theorem dX5_settledWith_37 : decode cX5_settledWith 37 = .ok (.if_icmp .eq 23, 3) := dk_159 0 23 (dk_at dksX5_settledWith_1 15 rfl rfl)
theorem dX5_settledWith_40 : decode cX5_settledWith 40 = .ok (.aload_n 0, 1) := dk_42 (dk_at dksX5_settledWith_1 18 rfl rfl)
theorem dX5_settledWith_41 : decode cX5_settledWith 41 = .ok (.getfield 9, 3) := dk_180 0 9 (dk_at dksX5_settledWith_1 19 rfl rfl)
theorem dX5_settledWith_44 : decode cX5_settledWith 44 = .ok (.iload 6, 2) := dk_21 6 (dk_at dksX5_settledWith_1 22 rfl rfl)
theorem dX5_settledWith_46 : decode cX5_settledWith 46 = .ok (.iaload, 1) := dk_46 (dk_at dksX5_settledWith_2 0 rfl rfl)
theorem dX5_settledWith_47 : decode cX5_settledWith 47 = .ok (.iconst 1, 1) := dk_4 (dk_at dksX5_settledWith_2 1 rfl rfl)
theorem dX5_settledWith_48 : decode cX5_settledWith 48 = .ok (.iload_n 2, 1) := dk_28 (dk_at dksX5_settledWith_2 2 rfl rfl)
theorem dX5_settledWith_49 : decode cX5_settledWith 49 = .ok (.ishl, 1) := dk_120 (dk_at dksX5_settledWith_2 3 rfl rfl)
theorem dX5_settledWith_50 : decode cX5_settledWith 50 = .ok (.if_icmp .ne 10, 3) := dk_160 0 10 (dk_at dksX5_settledWith_2 4 rfl rfl)
theorem dX5_settledWith_53 : decode cX5_settledWith 53 = .ok (.iconst 1, 1) := dk_4 (dk_at dksX5_settledWith_2 7 rfl rfl)
theorem dX5_settledWith_54 : decode cX5_settledWith 54 = .ok (.iload 5, 2) := dk_21 5 (dk_at dksX5_settledWith_2 8 rfl rfl)
theorem dX5_settledWith_56 : decode cX5_settledWith 56 = .ok (.ishl, 1) := dk_120 (dk_at dksX5_settledWith_2 10 rfl rfl)
theorem dX5_settledWith_57 : decode cX5_settledWith 57 = .ok (.goto 4, 3) := dk_167 0 4 (dk_at dksX5_settledWith_2 11 rfl rfl)
theorem dX5_settledWith_60 : decode cX5_settledWith 60 = .ok (.iconst 0, 1) := dk_3 (dk_at dksX5_settledWith_2 14 rfl rfl)
theorem dX5_settledWith_61 : decode cX5_settledWith 61 = .ok (.ior, 1) := dk_128 (dk_at dksX5_settledWith_2 15 rfl rfl)
theorem dX5_settledWith_62 : decode cX5_settledWith 62 = .ok (.istore 4, 2) := dk_54 4 (dk_at dksX5_settledWith_2 16 rfl rfl)
theorem dX5_settledWith_64 : decode cX5_settledWith 64 = .ok (.iinc 5 1, 3) := dk_132 5 1 (dk_at dksX5_settledWith_2 18 rfl rfl)
theorem dX5_settledWith_67 : decode cX5_settledWith 67 = .ok (.goto (-61), 3) := dk_167 255 195 (dk_at dksX5_settledWith_2 21 rfl rfl)
theorem dX5_settledWith_70 : decode cX5_settledWith 70 = .ok (.iload 4, 2) := dk_21 4 (dk_at dksX5_settledWith_3 0 rfl rfl)
theorem dX5_settledWith_72 : decode cX5_settledWith 72 = .ok (.ireturn, 1) := dk_172 (dk_at dksX5_settledWith_3 2 rfl rfl)
abbrev cX5_hasOther : ByteArray := prog_4_method_19_code
def yX5_hasOther : MethodName := ⟨RX5, "hasOther", "(III)Z"⟩
def dkwX5_hasOther_2 : List UInt8 := [160, 0, 7, 4, 167, 0, 4, 3, 128, 54, 5, 132, 6, 1, 167, 255, 213, 21, 5, 172]
abbrev dktX5_hasOther_2 : List UInt8 := dkwX5_hasOther_2 ++ []
def dkwX5_hasOther_1 : List UInt8 := [180, 0, 28, 162, 0, 37, 21, 5, 21, 6, 29, 159, 0, 19, 42, 27, 21, 6, 182, 0, 130, 21, 4]
abbrev dktX5_hasOther_1 : List UInt8 := dkwX5_hasOther_1 ++ dktX5_hasOther_2
def dkwX5_hasOther_0 : List UInt8 := [4, 42, 27, 28, 182, 0, 126, 120, 54, 4, 3, 54, 5, 3, 54, 6, 21, 6, 42, 180, 0, 20]
abbrev dktX5_hasOther_0 : List UInt8 := dkwX5_hasOther_0 ++ dktX5_hasOther_1
theorem dksX5_hasOther_0 : cX5_hasOther.data.toList.drop 0 = dktX5_hasOther_0 := by decide +kernel
theorem dksX5_hasOther_1 : cX5_hasOther.data.toList.drop 22 = dktX5_hasOther_1 := dk_seg dksX5_hasOther_0 22 rfl rfl
theorem dksX5_hasOther_2 : cX5_hasOther.data.toList.drop 45 = dktX5_hasOther_2 := dk_seg dksX5_hasOther_1 23 rfl rfl
theorem dX5_hasOther_0 : decode cX5_hasOther 0 = .ok (.iconst 1, 1) := dk_4 (dk_at dksX5_hasOther_0 0 rfl rfl)
theorem dX5_hasOther_1 : decode cX5_hasOther 1 = .ok (.aload_n 0, 1) := dk_42 (dk_at dksX5_hasOther_0 1 rfl rfl)
theorem dX5_hasOther_2 : decode cX5_hasOther 2 = .ok (.iload_n 1, 1) := dk_27 (dk_at dksX5_hasOther_0 2 rfl rfl)
theorem dX5_hasOther_3 : decode cX5_hasOther 3 = .ok (.iload_n 2, 1) := dk_28 (dk_at dksX5_hasOther_0 3 rfl rfl)
theorem dX5_hasOther_4 : decode cX5_hasOther 4 = .ok (.invokevirtual 126, 3) := dk_182 0 126 (dk_at dksX5_hasOther_0 4 rfl rfl)
theorem dX5_hasOther_7 : decode cX5_hasOther 7 = .ok (.ishl, 1) := dk_120 (dk_at dksX5_hasOther_0 7 rfl rfl)
theorem dX5_hasOther_8 : decode cX5_hasOther 8 = .ok (.istore 4, 2) := dk_54 4 (dk_at dksX5_hasOther_0 8 rfl rfl)
theorem dX5_hasOther_10 : decode cX5_hasOther 10 = .ok (.iconst 0, 1) := dk_3 (dk_at dksX5_hasOther_0 10 rfl rfl)
theorem dX5_hasOther_11 : decode cX5_hasOther 11 = .ok (.istore 5, 2) := dk_54 5 (dk_at dksX5_hasOther_0 11 rfl rfl)
theorem dX5_hasOther_13 : decode cX5_hasOther 13 = .ok (.iconst 0, 1) := dk_3 (dk_at dksX5_hasOther_0 13 rfl rfl)
theorem dX5_hasOther_14 : decode cX5_hasOther 14 = .ok (.istore 6, 2) := dk_54 6 (dk_at dksX5_hasOther_0 14 rfl rfl)
theorem dX5_hasOther_16 : decode cX5_hasOther 16 = .ok (.iload 6, 2) := dk_21 6 (dk_at dksX5_hasOther_0 16 rfl rfl)
theorem dX5_hasOther_18 : decode cX5_hasOther 18 = .ok (.aload_n 0, 1) := dk_42 (dk_at dksX5_hasOther_0 18 rfl rfl)
theorem dX5_hasOther_19 : decode cX5_hasOther 19 = .ok (.getfield 20, 3) := dk_180 0 20 (dk_at dksX5_hasOther_0 19 rfl rfl)
theorem dX5_hasOther_22 : decode cX5_hasOther 22 = .ok (.getfield 28, 3) := dk_180 0 28 (dk_at dksX5_hasOther_1 0 rfl rfl)
theorem dX5_hasOther_25 : decode cX5_hasOther 25 = .ok (.if_icmp .ge 37, 3) := dk_162 0 37 (dk_at dksX5_hasOther_1 3 rfl rfl)
theorem dX5_hasOther_28 : decode cX5_hasOther 28 = .ok (.iload 5, 2) := dk_21 5 (dk_at dksX5_hasOther_1 6 rfl rfl)
theorem dX5_hasOther_30 : decode cX5_hasOther 30 = .ok (.iload 6, 2) := dk_21 6 (dk_at dksX5_hasOther_1 8 rfl rfl)
theorem dX5_hasOther_32 : decode cX5_hasOther 32 = .ok (.iload_n 3, 1) := dk_29 (dk_at dksX5_hasOther_1 10 rfl rfl)
theorem dX5_hasOther_33 : decode cX5_hasOther 33 = .ok (.if_icmp .eq 19, 3) := dk_159 0 19 (dk_at dksX5_hasOther_1 11 rfl rfl)
theorem dX5_hasOther_36 : decode cX5_hasOther 36 = .ok (.aload_n 0, 1) := dk_42 (dk_at dksX5_hasOther_1 14 rfl rfl)
theorem dX5_hasOther_37 : decode cX5_hasOther 37 = .ok (.iload_n 1, 1) := dk_27 (dk_at dksX5_hasOther_1 15 rfl rfl)
theorem dX5_hasOther_38 : decode cX5_hasOther 38 = .ok (.iload 6, 2) := dk_21 6 (dk_at dksX5_hasOther_1 16 rfl rfl)
theorem dX5_hasOther_40 : decode cX5_hasOther 40 = .ok (.invokevirtual 130, 3) := dk_182 0 130 (dk_at dksX5_hasOther_1 18 rfl rfl)
theorem dX5_hasOther_43 : decode cX5_hasOther 43 = .ok (.iload 4, 2) := dk_21 4 (dk_at dksX5_hasOther_1 21 rfl rfl)
theorem dX5_hasOther_45 : decode cX5_hasOther 45 = .ok (.if_icmp .ne 7, 3) := dk_160 0 7 (dk_at dksX5_hasOther_2 0 rfl rfl)
theorem dX5_hasOther_48 : decode cX5_hasOther 48 = .ok (.iconst 1, 1) := dk_4 (dk_at dksX5_hasOther_2 3 rfl rfl)
theorem dX5_hasOther_49 : decode cX5_hasOther 49 = .ok (.goto 4, 3) := dk_167 0 4 (dk_at dksX5_hasOther_2 4 rfl rfl)
theorem dX5_hasOther_52 : decode cX5_hasOther 52 = .ok (.iconst 0, 1) := dk_3 (dk_at dksX5_hasOther_2 7 rfl rfl)
theorem dX5_hasOther_53 : decode cX5_hasOther 53 = .ok (.ior, 1) := dk_128 (dk_at dksX5_hasOther_2 8 rfl rfl)
theorem dX5_hasOther_54 : decode cX5_hasOther 54 = .ok (.istore 5, 2) := dk_54 5 (dk_at dksX5_hasOther_2 9 rfl rfl)
theorem dX5_hasOther_56 : decode cX5_hasOther 56 = .ok (.iinc 6 1, 3) := dk_132 6 1 (dk_at dksX5_hasOther_2 11 rfl rfl)
theorem dX5_hasOther_59 : decode cX5_hasOther 59 = .ok (.goto (-43), 3) := dk_167 255 213 (dk_at dksX5_hasOther_2 14 rfl rfl)
theorem dX5_hasOther_62 : decode cX5_hasOther 62 = .ok (.iload 5, 2) := dk_21 5 (dk_at dksX5_hasOther_2 17 rfl rfl)
theorem dX5_hasOther_64 : decode cX5_hasOther 64 = .ok (.ireturn, 1) := dk_172 (dk_at dksX5_hasOther_2 19 rfl rfl)
abbrev cX5_placeIn : ByteArray := prog_4_method_18_code
def yX5_placeIn : MethodName := ⟨RX5, "placeIn", "(II)I"⟩
def dkwX5_placeIn_1 : List UInt8 := [172]
abbrev dktX5_placeIn_1 : List UInt8 := dkwX5_placeIn_1 ++ []
def dkwX5_placeIn_0 : List UInt8 := [3, 62, 42, 180, 0, 20, 180, 0, 50, 27, 50, 29, 46, 28, 159, 0, 9, 132, 3, 1, 167, 255, 238, 29]
abbrev dktX5_placeIn_0 : List UInt8 := dkwX5_placeIn_0 ++ dktX5_placeIn_1
theorem dksX5_placeIn_0 : cX5_placeIn.data.toList.drop 0 = dktX5_placeIn_0 := by decide +kernel
theorem dksX5_placeIn_1 : cX5_placeIn.data.toList.drop 24 = dktX5_placeIn_1 := dk_seg dksX5_placeIn_0 24 rfl rfl
theorem dX5_placeIn_0 : decode cX5_placeIn 0 = .ok (.iconst 0, 1) := dk_3 (dk_at dksX5_placeIn_0 0 rfl rfl)
theorem dX5_placeIn_1 : decode cX5_placeIn 1 = .ok (.istore_n 3, 1) := dk_62 (dk_at dksX5_placeIn_0 1 rfl rfl)
theorem dX5_placeIn_2 : decode cX5_placeIn 2 = .ok (.aload_n 0, 1) := dk_42 (dk_at dksX5_placeIn_0 2 rfl rfl)
theorem dX5_placeIn_3 : decode cX5_placeIn 3 = .ok (.getfield 20, 3) := dk_180 0 20 (dk_at dksX5_placeIn_0 3 rfl rfl)
theorem dX5_placeIn_6 : decode cX5_placeIn 6 = .ok (.getfield 50, 3) := dk_180 0 50 (dk_at dksX5_placeIn_0 6 rfl rfl)
theorem dX5_placeIn_9 : decode cX5_placeIn 9 = .ok (.iload_n 1, 1) := dk_27 (dk_at dksX5_placeIn_0 9 rfl rfl)
theorem dX5_placeIn_10 : decode cX5_placeIn 10 = .ok (.aaload, 1) := dk_50 (dk_at dksX5_placeIn_0 10 rfl rfl)
theorem dX5_placeIn_11 : decode cX5_placeIn 11 = .ok (.iload_n 3, 1) := dk_29 (dk_at dksX5_placeIn_0 11 rfl rfl)
theorem dX5_placeIn_12 : decode cX5_placeIn 12 = .ok (.iaload, 1) := dk_46 (dk_at dksX5_placeIn_0 12 rfl rfl)
theorem dX5_placeIn_13 : decode cX5_placeIn 13 = .ok (.iload_n 2, 1) := dk_28 (dk_at dksX5_placeIn_0 13 rfl rfl)
theorem dX5_placeIn_14 : decode cX5_placeIn 14 = .ok (.if_icmp .eq 9, 3) := dk_159 0 9 (dk_at dksX5_placeIn_0 14 rfl rfl)
theorem dX5_placeIn_17 : decode cX5_placeIn 17 = .ok (.iinc 3 1, 3) := dk_132 3 1 (dk_at dksX5_placeIn_0 17 rfl rfl)
theorem dX5_placeIn_20 : decode cX5_placeIn 20 = .ok (.goto (-18), 3) := dk_167 255 238 (dk_at dksX5_placeIn_0 20 rfl rfl)
theorem dX5_placeIn_23 : decode cX5_placeIn 23 = .ok (.iload_n 3, 1) := dk_29 (dk_at dksX5_placeIn_0 23 rfl rfl)
theorem dX5_placeIn_24 : decode cX5_placeIn 24 = .ok (.ireturn, 1) := dk_172 (dk_at dksX5_placeIn_1 0 rfl rfl)
abbrev cX5_placesWith : ByteArray := prog_4_method_16_code
def yX5_placesWith : MethodName := ⟨RX5, "placesWith", "(II)I"⟩
def dkwX5_placesWith_2 : List UInt8 := [167, 0, 4, 3, 128, 62, 132, 4, 1, 167, 255, 206, 29, 172]
abbrev dktX5_placesWith_2 : List UInt8 := dkwX5_placesWith_2 ++ []
def dkwX5_placesWith_1 : List UInt8 := [180, 0, 20, 180, 0, 50, 27, 50, 21, 4, 46, 46, 28, 184, 0, 56, 153, 0, 10, 4, 21, 4, 120]
abbrev dktX5_placesWith_1 : List UInt8 := dkwX5_placesWith_1 ++ dktX5_placesWith_2
def dkwX5_placesWith_0 : List UInt8 := [3, 62, 3, 54, 4, 21, 4, 42, 180, 0, 20, 180, 0, 53, 162, 0, 44, 29, 42, 180, 0, 9, 42]
abbrev dktX5_placesWith_0 : List UInt8 := dkwX5_placesWith_0 ++ dktX5_placesWith_1
theorem dksX5_placesWith_0 : cX5_placesWith.data.toList.drop 0 = dktX5_placesWith_0 := by decide +kernel
theorem dksX5_placesWith_1 : cX5_placesWith.data.toList.drop 23 = dktX5_placesWith_1 := dk_seg dksX5_placesWith_0 23 rfl rfl
theorem dksX5_placesWith_2 : cX5_placesWith.data.toList.drop 46 = dktX5_placesWith_2 := dk_seg dksX5_placesWith_1 23 rfl rfl
theorem dX5_placesWith_0 : decode cX5_placesWith 0 = .ok (.iconst 0, 1) := dk_3 (dk_at dksX5_placesWith_0 0 rfl rfl)
theorem dX5_placesWith_1 : decode cX5_placesWith 1 = .ok (.istore_n 3, 1) := dk_62 (dk_at dksX5_placesWith_0 1 rfl rfl)
theorem dX5_placesWith_2 : decode cX5_placesWith 2 = .ok (.iconst 0, 1) := dk_3 (dk_at dksX5_placesWith_0 2 rfl rfl)
theorem dX5_placesWith_3 : decode cX5_placesWith 3 = .ok (.istore 4, 2) := dk_54 4 (dk_at dksX5_placesWith_0 3 rfl rfl)
theorem dX5_placesWith_5 : decode cX5_placesWith 5 = .ok (.iload 4, 2) := dk_21 4 (dk_at dksX5_placesWith_0 5 rfl rfl)
theorem dX5_placesWith_7 : decode cX5_placesWith 7 = .ok (.aload_n 0, 1) := dk_42 (dk_at dksX5_placesWith_0 7 rfl rfl)
theorem dX5_placesWith_8 : decode cX5_placesWith 8 = .ok (.getfield 20, 3) := dk_180 0 20 (dk_at dksX5_placesWith_0 8 rfl rfl)
theorem dX5_placesWith_11 : decode cX5_placesWith 11 = .ok (.getfield 53, 3) := dk_180 0 53 (dk_at dksX5_placesWith_0 11 rfl rfl)
theorem dX5_placesWith_14 : decode cX5_placesWith 14 = .ok (.if_icmp .ge 44, 3) := dk_162 0 44 (dk_at dksX5_placesWith_0 14 rfl rfl)
theorem dX5_placesWith_17 : decode cX5_placesWith 17 = .ok (.iload_n 3, 1) := dk_29 (dk_at dksX5_placesWith_0 17 rfl rfl)
theorem dX5_placesWith_18 : decode cX5_placesWith 18 = .ok (.aload_n 0, 1) := dk_42 (dk_at dksX5_placesWith_0 18 rfl rfl)
theorem dX5_placesWith_19 : decode cX5_placesWith 19 = .ok (.getfield 9, 3) := dk_180 0 9 (dk_at dksX5_placesWith_0 19 rfl rfl)
theorem dX5_placesWith_22 : decode cX5_placesWith 22 = .ok (.aload_n 0, 1) := dk_42 (dk_at dksX5_placesWith_0 22 rfl rfl)
theorem dX5_placesWith_23 : decode cX5_placesWith 23 = .ok (.getfield 20, 3) := dk_180 0 20 (dk_at dksX5_placesWith_1 0 rfl rfl)
theorem dX5_placesWith_26 : decode cX5_placesWith 26 = .ok (.getfield 50, 3) := dk_180 0 50 (dk_at dksX5_placesWith_1 3 rfl rfl)
theorem dX5_placesWith_29 : decode cX5_placesWith 29 = .ok (.iload_n 1, 1) := dk_27 (dk_at dksX5_placesWith_1 6 rfl rfl)
theorem dX5_placesWith_30 : decode cX5_placesWith 30 = .ok (.aaload, 1) := dk_50 (dk_at dksX5_placesWith_1 7 rfl rfl)
theorem dX5_placesWith_31 : decode cX5_placesWith 31 = .ok (.iload 4, 2) := dk_21 4 (dk_at dksX5_placesWith_1 8 rfl rfl)
theorem dX5_placesWith_33 : decode cX5_placesWith 33 = .ok (.iaload, 1) := dk_46 (dk_at dksX5_placesWith_1 10 rfl rfl)
theorem dX5_placesWith_34 : decode cX5_placesWith 34 = .ok (.iaload, 1) := dk_46 (dk_at dksX5_placesWith_1 11 rfl rfl)
theorem dX5_placesWith_35 : decode cX5_placesWith 35 = .ok (.iload_n 2, 1) := dk_28 (dk_at dksX5_placesWith_1 12 rfl rfl)
theorem dX5_placesWith_36 : decode cX5_placesWith 36 = .ok (.invokestatic 56, 3) := dk_184 0 56 (dk_at dksX5_placesWith_1 13 rfl rfl)
theorem dX5_placesWith_39 : decode cX5_placesWith 39 = .ok (.ifCond .eq 10, 3) := dk_153 0 10 (dk_at dksX5_placesWith_1 16 rfl rfl)
theorem dX5_placesWith_42 : decode cX5_placesWith 42 = .ok (.iconst 1, 1) := dk_4 (dk_at dksX5_placesWith_1 19 rfl rfl)
theorem dX5_placesWith_43 : decode cX5_placesWith 43 = .ok (.iload 4, 2) := dk_21 4 (dk_at dksX5_placesWith_1 20 rfl rfl)
theorem dX5_placesWith_45 : decode cX5_placesWith 45 = .ok (.ishl, 1) := dk_120 (dk_at dksX5_placesWith_1 22 rfl rfl)
theorem dX5_placesWith_46 : decode cX5_placesWith 46 = .ok (.goto 4, 3) := dk_167 0 4 (dk_at dksX5_placesWith_2 0 rfl rfl)
theorem dX5_placesWith_49 : decode cX5_placesWith 49 = .ok (.iconst 0, 1) := dk_3 (dk_at dksX5_placesWith_2 3 rfl rfl)
theorem dX5_placesWith_50 : decode cX5_placesWith 50 = .ok (.ior, 1) := dk_128 (dk_at dksX5_placesWith_2 4 rfl rfl)
theorem dX5_placesWith_51 : decode cX5_placesWith 51 = .ok (.istore_n 3, 1) := dk_62 (dk_at dksX5_placesWith_2 5 rfl rfl)
theorem dX5_placesWith_52 : decode cX5_placesWith 52 = .ok (.iinc 4 1, 3) := dk_132 4 1 (dk_at dksX5_placesWith_2 6 rfl rfl)
theorem dX5_placesWith_55 : decode cX5_placesWith 55 = .ok (.goto (-50), 3) := dk_167 255 206 (dk_at dksX5_placesWith_2 9 rfl rfl)
theorem dX5_placesWith_58 : decode cX5_placesWith 58 = .ok (.iload_n 3, 1) := dk_29 (dk_at dksX5_placesWith_2 12 rfl rfl)
theorem dX5_placesWith_59 : decode cX5_placesWith 59 = .ok (.ireturn, 1) := dk_172 (dk_at dksX5_placesWith_2 13 rfl rfl)
abbrev cX5_isByGaps : ByteArray := prog_4_method_20_code
def yX5_isByGaps : MethodName := ⟨RX5, "isByGaps", "(III)Z"⟩
def dkwX5_isByGaps_3 : List UInt8 := [42, 180, 0, 20, 182, 0, 137, 160, 0, 7, 4, 167, 0, 4, 3, 172]
abbrev dktX5_isByGaps_3 : List UInt8 := dkwX5_isByGaps_3 ++ []
def dkwX5_isByGaps_2 : List UInt8 := [182, 0, 130, 54, 4, 21, 4, 42, 27, 28, 182, 0, 126, 184, 0, 56, 153, 0, 22, 21, 4, 184, 0, 99]
abbrev dktX5_isByGaps_2 : List UInt8 := dkwX5_isByGaps_2 ++ dktX5_isByGaps_3
def dkwX5_isByGaps_1 : List UInt8 := [180, 0, 20, 182, 0, 137, 160, 0, 7, 4, 167, 0, 4, 3, 172, 42, 27, 42, 180, 0, 20, 180, 0, 28]
abbrev dktX5_isByGaps_1 : List UInt8 := dkwX5_isByGaps_1 ++ dktX5_isByGaps_2
def dkwX5_isByGaps_0 : List UInt8 := [29, 42, 180, 0, 20, 180, 0, 28, 160, 0, 29, 42, 27, 29, 28, 182, 0, 133, 184, 0, 99, 42]
abbrev dktX5_isByGaps_0 : List UInt8 := dkwX5_isByGaps_0 ++ dktX5_isByGaps_1
theorem dksX5_isByGaps_0 : cX5_isByGaps.data.toList.drop 0 = dktX5_isByGaps_0 := by decide +kernel
theorem dksX5_isByGaps_1 : cX5_isByGaps.data.toList.drop 22 = dktX5_isByGaps_1 := dk_seg dksX5_isByGaps_0 22 rfl rfl
theorem dksX5_isByGaps_2 : cX5_isByGaps.data.toList.drop 46 = dktX5_isByGaps_2 := dk_seg dksX5_isByGaps_1 24 rfl rfl
theorem dksX5_isByGaps_3 : cX5_isByGaps.data.toList.drop 70 = dktX5_isByGaps_3 := dk_seg dksX5_isByGaps_2 24 rfl rfl
theorem dX5_isByGaps_0 : decode cX5_isByGaps 0 = .ok (.iload_n 3, 1) := dk_29 (dk_at dksX5_isByGaps_0 0 rfl rfl)
theorem dX5_isByGaps_1 : decode cX5_isByGaps 1 = .ok (.aload_n 0, 1) := dk_42 (dk_at dksX5_isByGaps_0 1 rfl rfl)
theorem dX5_isByGaps_2 : decode cX5_isByGaps 2 = .ok (.getfield 20, 3) := dk_180 0 20 (dk_at dksX5_isByGaps_0 2 rfl rfl)
theorem dX5_isByGaps_5 : decode cX5_isByGaps 5 = .ok (.getfield 28, 3) := dk_180 0 28 (dk_at dksX5_isByGaps_0 5 rfl rfl)
theorem dX5_isByGaps_8 : decode cX5_isByGaps 8 = .ok (.if_icmp .ne 29, 3) := dk_160 0 29 (dk_at dksX5_isByGaps_0 8 rfl rfl)
theorem dX5_isByGaps_11 : decode cX5_isByGaps 11 = .ok (.aload_n 0, 1) := dk_42 (dk_at dksX5_isByGaps_0 11 rfl rfl)
theorem dX5_isByGaps_12 : decode cX5_isByGaps 12 = .ok (.iload_n 1, 1) := dk_27 (dk_at dksX5_isByGaps_0 12 rfl rfl)
theorem dX5_isByGaps_13 : decode cX5_isByGaps 13 = .ok (.iload_n 3, 1) := dk_29 (dk_at dksX5_isByGaps_0 13 rfl rfl)
theorem dX5_isByGaps_14 : decode cX5_isByGaps 14 = .ok (.iload_n 2, 1) := dk_28 (dk_at dksX5_isByGaps_0 14 rfl rfl)
theorem dX5_isByGaps_15 : decode cX5_isByGaps 15 = .ok (.invokevirtual 133, 3) := dk_182 0 133 (dk_at dksX5_isByGaps_0 15 rfl rfl)
theorem dX5_isByGaps_18 : decode cX5_isByGaps 18 = .ok (.invokestatic 99, 3) := dk_184 0 99 (dk_at dksX5_isByGaps_0 18 rfl rfl)
theorem dX5_isByGaps_21 : decode cX5_isByGaps 21 = .ok (.aload_n 0, 1) := dk_42 (dk_at dksX5_isByGaps_0 21 rfl rfl)
theorem dX5_isByGaps_22 : decode cX5_isByGaps 22 = .ok (.getfield 20, 3) := dk_180 0 20 (dk_at dksX5_isByGaps_1 0 rfl rfl)
theorem dX5_isByGaps_25 : decode cX5_isByGaps 25 = .ok (.invokevirtual 137, 3) := dk_182 0 137 (dk_at dksX5_isByGaps_1 3 rfl rfl)
theorem dX5_isByGaps_28 : decode cX5_isByGaps 28 = .ok (.if_icmp .ne 7, 3) := dk_160 0 7 (dk_at dksX5_isByGaps_1 6 rfl rfl)
theorem dX5_isByGaps_31 : decode cX5_isByGaps 31 = .ok (.iconst 1, 1) := dk_4 (dk_at dksX5_isByGaps_1 9 rfl rfl)
theorem dX5_isByGaps_32 : decode cX5_isByGaps 32 = .ok (.goto 4, 3) := dk_167 0 4 (dk_at dksX5_isByGaps_1 10 rfl rfl)
theorem dX5_isByGaps_35 : decode cX5_isByGaps 35 = .ok (.iconst 0, 1) := dk_3 (dk_at dksX5_isByGaps_1 13 rfl rfl)
theorem dX5_isByGaps_36 : decode cX5_isByGaps 36 = .ok (.ireturn, 1) := dk_172 (dk_at dksX5_isByGaps_1 14 rfl rfl)
theorem dX5_isByGaps_37 : decode cX5_isByGaps 37 = .ok (.aload_n 0, 1) := dk_42 (dk_at dksX5_isByGaps_1 15 rfl rfl)
theorem dX5_isByGaps_38 : decode cX5_isByGaps 38 = .ok (.iload_n 1, 1) := dk_27 (dk_at dksX5_isByGaps_1 16 rfl rfl)
theorem dX5_isByGaps_39 : decode cX5_isByGaps 39 = .ok (.aload_n 0, 1) := dk_42 (dk_at dksX5_isByGaps_1 17 rfl rfl)
theorem dX5_isByGaps_40 : decode cX5_isByGaps 40 = .ok (.getfield 20, 3) := dk_180 0 20 (dk_at dksX5_isByGaps_1 18 rfl rfl)
theorem dX5_isByGaps_43 : decode cX5_isByGaps 43 = .ok (.getfield 28, 3) := dk_180 0 28 (dk_at dksX5_isByGaps_1 21 rfl rfl)
theorem dX5_isByGaps_46 : decode cX5_isByGaps 46 = .ok (.invokevirtual 130, 3) := dk_182 0 130 (dk_at dksX5_isByGaps_2 0 rfl rfl)
theorem dX5_isByGaps_49 : decode cX5_isByGaps 49 = .ok (.istore 4, 2) := dk_54 4 (dk_at dksX5_isByGaps_2 3 rfl rfl)
theorem dX5_isByGaps_51 : decode cX5_isByGaps 51 = .ok (.iload 4, 2) := dk_21 4 (dk_at dksX5_isByGaps_2 5 rfl rfl)
theorem dX5_isByGaps_53 : decode cX5_isByGaps 53 = .ok (.aload_n 0, 1) := dk_42 (dk_at dksX5_isByGaps_2 7 rfl rfl)
theorem dX5_isByGaps_54 : decode cX5_isByGaps 54 = .ok (.iload_n 1, 1) := dk_27 (dk_at dksX5_isByGaps_2 8 rfl rfl)
theorem dX5_isByGaps_55 : decode cX5_isByGaps 55 = .ok (.iload_n 2, 1) := dk_28 (dk_at dksX5_isByGaps_2 9 rfl rfl)
theorem dX5_isByGaps_56 : decode cX5_isByGaps 56 = .ok (.invokevirtual 126, 3) := dk_182 0 126 (dk_at dksX5_isByGaps_2 10 rfl rfl)
theorem dX5_isByGaps_59 : decode cX5_isByGaps 59 = .ok (.invokestatic 56, 3) := dk_184 0 56 (dk_at dksX5_isByGaps_2 13 rfl rfl)
theorem dX5_isByGaps_62 : decode cX5_isByGaps 62 = .ok (.ifCond .eq 22, 3) := dk_153 0 22 (dk_at dksX5_isByGaps_2 16 rfl rfl)
theorem dX5_isByGaps_65 : decode cX5_isByGaps 65 = .ok (.iload 4, 2) := dk_21 4 (dk_at dksX5_isByGaps_2 19 rfl rfl)
theorem dX5_isByGaps_67 : decode cX5_isByGaps 67 = .ok (.invokestatic 99, 3) := dk_184 0 99 (dk_at dksX5_isByGaps_2 21 rfl rfl)
theorem dX5_isByGaps_70 : decode cX5_isByGaps 70 = .ok (.aload_n 0, 1) := dk_42 (dk_at dksX5_isByGaps_3 0 rfl rfl)
theorem dX5_isByGaps_71 : decode cX5_isByGaps 71 = .ok (.getfield 20, 3) := dk_180 0 20 (dk_at dksX5_isByGaps_3 1 rfl rfl)
theorem dX5_isByGaps_74 : decode cX5_isByGaps 74 = .ok (.invokevirtual 137, 3) := dk_182 0 137 (dk_at dksX5_isByGaps_3 4 rfl rfl)
theorem dX5_isByGaps_77 : decode cX5_isByGaps 77 = .ok (.if_icmp .ne 7, 3) := dk_160 0 7 (dk_at dksX5_isByGaps_3 7 rfl rfl)
theorem dX5_isByGaps_80 : decode cX5_isByGaps 80 = .ok (.iconst 1, 1) := dk_4 (dk_at dksX5_isByGaps_3 10 rfl rfl)
theorem dX5_isByGaps_81 : decode cX5_isByGaps 81 = .ok (.goto 4, 3) := dk_167 0 4 (dk_at dksX5_isByGaps_3 11 rfl rfl)
theorem dX5_isByGaps_84 : decode cX5_isByGaps 84 = .ok (.iconst 0, 1) := dk_3 (dk_at dksX5_isByGaps_3 14 rfl rfl)
theorem dX5_isByGaps_85 : decode cX5_isByGaps 85 = .ok (.ireturn, 1) := dk_172 (dk_at dksX5_isByGaps_3 15 rfl rfl)
abbrev cX5_isInPair : ByteArray := prog_4_method_21_code
def yX5_isInPair : MethodName := ⟨RX5, "isInPair", "(III)Z"⟩
def dkwX5_isInPair_5 : List UInt8 := [54, 5, 132, 8, 1, 167, 255, 176, 132, 6, 1, 167, 255, 143, 21, 5, 172]
abbrev dktX5_isInPair_5 : List UInt8 := dkwX5_isInPair_5 ++ []
def dkwX5_isInPair_4 : List UInt8 := [21, 9, 153, 0, 19, 29, 21, 6, 159, 0, 13, 29, 21, 8, 159, 0, 7, 4, 167, 0, 4, 3, 128]
abbrev dktX5_isInPair_4 : List UInt8 := dkwX5_isInPair_4 ++ dktX5_isInPair_5
def dkwX5_isInPair_3 : List UInt8 := [182, 0, 130, 160, 0, 16, 21, 7, 184, 0, 99, 5, 160, 0, 7, 4, 167, 0, 4, 3, 54, 9, 21, 5]
abbrev dktX5_isInPair_3 : List UInt8 := dkwX5_isInPair_3 ++ dktX5_isInPair_4
def dkwX5_isInPair_2 : List UInt8 := [180, 0, 28, 162, 0, 74, 21, 7, 21, 4, 184, 0, 56, 153, 0, 64, 21, 7, 42, 27, 21, 8]
abbrev dktX5_isInPair_2 : List UInt8 := dkwX5_isInPair_2 ++ dktX5_isInPair_3
def dkwX5_isInPair_1 : List UInt8 := [162, 0, 107, 42, 27, 21, 6, 182, 0, 130, 54, 7, 21, 6, 4, 96, 54, 8, 21, 8, 42, 180, 0, 20]
abbrev dktX5_isInPair_1 : List UInt8 := dkwX5_isInPair_1 ++ dktX5_isInPair_2
def dkwX5_isInPair_0 : List UInt8 := [42, 27, 28, 182, 0, 126, 54, 4, 3, 54, 5, 3, 54, 6, 21, 6, 42, 180, 0, 20, 180, 0, 28]
abbrev dktX5_isInPair_0 : List UInt8 := dkwX5_isInPair_0 ++ dktX5_isInPair_1
theorem dksX5_isInPair_0 : cX5_isInPair.data.toList.drop 0 = dktX5_isInPair_0 := by decide +kernel
theorem dksX5_isInPair_1 : cX5_isInPair.data.toList.drop 23 = dktX5_isInPair_1 := dk_seg dksX5_isInPair_0 23 rfl rfl
theorem dksX5_isInPair_2 : cX5_isInPair.data.toList.drop 47 = dktX5_isInPair_2 := dk_seg dksX5_isInPair_1 24 rfl rfl
theorem dksX5_isInPair_3 : cX5_isInPair.data.toList.drop 69 = dktX5_isInPair_3 := dk_seg dksX5_isInPair_2 22 rfl rfl
theorem dksX5_isInPair_4 : cX5_isInPair.data.toList.drop 93 = dktX5_isInPair_4 := dk_seg dksX5_isInPair_3 24 rfl rfl
theorem dksX5_isInPair_5 : cX5_isInPair.data.toList.drop 116 = dktX5_isInPair_5 := dk_seg dksX5_isInPair_4 23 rfl rfl
theorem dX5_isInPair_0 : decode cX5_isInPair 0 = .ok (.aload_n 0, 1) := dk_42 (dk_at dksX5_isInPair_0 0 rfl rfl)
theorem dX5_isInPair_1 : decode cX5_isInPair 1 = .ok (.iload_n 1, 1) := dk_27 (dk_at dksX5_isInPair_0 1 rfl rfl)
theorem dX5_isInPair_2 : decode cX5_isInPair 2 = .ok (.iload_n 2, 1) := dk_28 (dk_at dksX5_isInPair_0 2 rfl rfl)
theorem dX5_isInPair_3 : decode cX5_isInPair 3 = .ok (.invokevirtual 126, 3) := dk_182 0 126 (dk_at dksX5_isInPair_0 3 rfl rfl)
theorem dX5_isInPair_6 : decode cX5_isInPair 6 = .ok (.istore 4, 2) := dk_54 4 (dk_at dksX5_isInPair_0 6 rfl rfl)
theorem dX5_isInPair_8 : decode cX5_isInPair 8 = .ok (.iconst 0, 1) := dk_3 (dk_at dksX5_isInPair_0 8 rfl rfl)
theorem dX5_isInPair_9 : decode cX5_isInPair 9 = .ok (.istore 5, 2) := dk_54 5 (dk_at dksX5_isInPair_0 9 rfl rfl)
theorem dX5_isInPair_11 : decode cX5_isInPair 11 = .ok (.iconst 0, 1) := dk_3 (dk_at dksX5_isInPair_0 11 rfl rfl)
theorem dX5_isInPair_12 : decode cX5_isInPair 12 = .ok (.istore 6, 2) := dk_54 6 (dk_at dksX5_isInPair_0 12 rfl rfl)
theorem dX5_isInPair_14 : decode cX5_isInPair 14 = .ok (.iload 6, 2) := dk_21 6 (dk_at dksX5_isInPair_0 14 rfl rfl)
theorem dX5_isInPair_16 : decode cX5_isInPair 16 = .ok (.aload_n 0, 1) := dk_42 (dk_at dksX5_isInPair_0 16 rfl rfl)
theorem dX5_isInPair_17 : decode cX5_isInPair 17 = .ok (.getfield 20, 3) := dk_180 0 20 (dk_at dksX5_isInPair_0 17 rfl rfl)
theorem dX5_isInPair_20 : decode cX5_isInPair 20 = .ok (.getfield 28, 3) := dk_180 0 28 (dk_at dksX5_isInPair_0 20 rfl rfl)
theorem dX5_isInPair_23 : decode cX5_isInPair 23 = .ok (.if_icmp .ge 107, 3) := dk_162 0 107 (dk_at dksX5_isInPair_1 0 rfl rfl)
theorem dX5_isInPair_26 : decode cX5_isInPair 26 = .ok (.aload_n 0, 1) := dk_42 (dk_at dksX5_isInPair_1 3 rfl rfl)
theorem dX5_isInPair_27 : decode cX5_isInPair 27 = .ok (.iload_n 1, 1) := dk_27 (dk_at dksX5_isInPair_1 4 rfl rfl)
theorem dX5_isInPair_28 : decode cX5_isInPair 28 = .ok (.iload 6, 2) := dk_21 6 (dk_at dksX5_isInPair_1 5 rfl rfl)
theorem dX5_isInPair_30 : decode cX5_isInPair 30 = .ok (.invokevirtual 130, 3) := dk_182 0 130 (dk_at dksX5_isInPair_1 7 rfl rfl)
theorem dX5_isInPair_33 : decode cX5_isInPair 33 = .ok (.istore 7, 2) := dk_54 7 (dk_at dksX5_isInPair_1 10 rfl rfl)
theorem dX5_isInPair_35 : decode cX5_isInPair 35 = .ok (.iload 6, 2) := dk_21 6 (dk_at dksX5_isInPair_1 12 rfl rfl)
theorem dX5_isInPair_37 : decode cX5_isInPair 37 = .ok (.iconst 1, 1) := dk_4 (dk_at dksX5_isInPair_1 14 rfl rfl)
theorem dX5_isInPair_38 : decode cX5_isInPair 38 = .ok (.iadd, 1) := dk_96 (dk_at dksX5_isInPair_1 15 rfl rfl)
theorem dX5_isInPair_39 : decode cX5_isInPair 39 = .ok (.istore 8, 2) := dk_54 8 (dk_at dksX5_isInPair_1 16 rfl rfl)
theorem dX5_isInPair_41 : decode cX5_isInPair 41 = .ok (.iload 8, 2) := dk_21 8 (dk_at dksX5_isInPair_1 18 rfl rfl)
theorem dX5_isInPair_43 : decode cX5_isInPair 43 = .ok (.aload_n 0, 1) := dk_42 (dk_at dksX5_isInPair_1 20 rfl rfl)
theorem dX5_isInPair_44 : decode cX5_isInPair 44 = .ok (.getfield 20, 3) := dk_180 0 20 (dk_at dksX5_isInPair_1 21 rfl rfl)
theorem dX5_isInPair_47 : decode cX5_isInPair 47 = .ok (.getfield 28, 3) := dk_180 0 28 (dk_at dksX5_isInPair_2 0 rfl rfl)
theorem dX5_isInPair_50 : decode cX5_isInPair 50 = .ok (.if_icmp .ge 74, 3) := dk_162 0 74 (dk_at dksX5_isInPair_2 3 rfl rfl)
theorem dX5_isInPair_53 : decode cX5_isInPair 53 = .ok (.iload 7, 2) := dk_21 7 (dk_at dksX5_isInPair_2 6 rfl rfl)
theorem dX5_isInPair_55 : decode cX5_isInPair 55 = .ok (.iload 4, 2) := dk_21 4 (dk_at dksX5_isInPair_2 8 rfl rfl)
theorem dX5_isInPair_57 : decode cX5_isInPair 57 = .ok (.invokestatic 56, 3) := dk_184 0 56 (dk_at dksX5_isInPair_2 10 rfl rfl)
theorem dX5_isInPair_60 : decode cX5_isInPair 60 = .ok (.ifCond .eq 64, 3) := dk_153 0 64 (dk_at dksX5_isInPair_2 13 rfl rfl)
theorem dX5_isInPair_63 : decode cX5_isInPair 63 = .ok (.iload 7, 2) := dk_21 7 (dk_at dksX5_isInPair_2 16 rfl rfl)
theorem dX5_isInPair_65 : decode cX5_isInPair 65 = .ok (.aload_n 0, 1) := dk_42 (dk_at dksX5_isInPair_2 18 rfl rfl)
theorem dX5_isInPair_66 : decode cX5_isInPair 66 = .ok (.iload_n 1, 1) := dk_27 (dk_at dksX5_isInPair_2 19 rfl rfl)
theorem dX5_isInPair_67 : decode cX5_isInPair 67 = .ok (.iload 8, 2) := dk_21 8 (dk_at dksX5_isInPair_2 20 rfl rfl)
theorem dX5_isInPair_69 : decode cX5_isInPair 69 = .ok (.invokevirtual 130, 3) := dk_182 0 130 (dk_at dksX5_isInPair_3 0 rfl rfl)
theorem dX5_isInPair_72 : decode cX5_isInPair 72 = .ok (.if_icmp .ne 16, 3) := dk_160 0 16 (dk_at dksX5_isInPair_3 3 rfl rfl)
theorem dX5_isInPair_75 : decode cX5_isInPair 75 = .ok (.iload 7, 2) := dk_21 7 (dk_at dksX5_isInPair_3 6 rfl rfl)
theorem dX5_isInPair_77 : decode cX5_isInPair 77 = .ok (.invokestatic 99, 3) := dk_184 0 99 (dk_at dksX5_isInPair_3 8 rfl rfl)
theorem dX5_isInPair_80 : decode cX5_isInPair 80 = .ok (.iconst 2, 1) := dk_5 (dk_at dksX5_isInPair_3 11 rfl rfl)
theorem dX5_isInPair_81 : decode cX5_isInPair 81 = .ok (.if_icmp .ne 7, 3) := dk_160 0 7 (dk_at dksX5_isInPair_3 12 rfl rfl)
theorem dX5_isInPair_84 : decode cX5_isInPair 84 = .ok (.iconst 1, 1) := dk_4 (dk_at dksX5_isInPair_3 15 rfl rfl)
theorem dX5_isInPair_85 : decode cX5_isInPair 85 = .ok (.goto 4, 3) := dk_167 0 4 (dk_at dksX5_isInPair_3 16 rfl rfl)
theorem dX5_isInPair_88 : decode cX5_isInPair 88 = .ok (.iconst 0, 1) := dk_3 (dk_at dksX5_isInPair_3 19 rfl rfl)
theorem dX5_isInPair_89 : decode cX5_isInPair 89 = .ok (.istore 9, 2) := dk_54 9 (dk_at dksX5_isInPair_3 20 rfl rfl)
theorem dX5_isInPair_91 : decode cX5_isInPair 91 = .ok (.iload 5, 2) := dk_21 5 (dk_at dksX5_isInPair_3 22 rfl rfl)
theorem dX5_isInPair_93 : decode cX5_isInPair 93 = .ok (.iload 9, 2) := dk_21 9 (dk_at dksX5_isInPair_4 0 rfl rfl)
theorem dX5_isInPair_95 : decode cX5_isInPair 95 = .ok (.ifCond .eq 19, 3) := dk_153 0 19 (dk_at dksX5_isInPair_4 2 rfl rfl)
theorem dX5_isInPair_98 : decode cX5_isInPair 98 = .ok (.iload_n 3, 1) := dk_29 (dk_at dksX5_isInPair_4 5 rfl rfl)
theorem dX5_isInPair_99 : decode cX5_isInPair 99 = .ok (.iload 6, 2) := dk_21 6 (dk_at dksX5_isInPair_4 6 rfl rfl)
theorem dX5_isInPair_101 : decode cX5_isInPair 101 = .ok (.if_icmp .eq 13, 3) := dk_159 0 13 (dk_at dksX5_isInPair_4 8 rfl rfl)
theorem dX5_isInPair_104 : decode cX5_isInPair 104 = .ok (.iload_n 3, 1) := dk_29 (dk_at dksX5_isInPair_4 11 rfl rfl)
theorem dX5_isInPair_105 : decode cX5_isInPair 105 = .ok (.iload 8, 2) := dk_21 8 (dk_at dksX5_isInPair_4 12 rfl rfl)
theorem dX5_isInPair_107 : decode cX5_isInPair 107 = .ok (.if_icmp .eq 7, 3) := dk_159 0 7 (dk_at dksX5_isInPair_4 14 rfl rfl)
theorem dX5_isInPair_110 : decode cX5_isInPair 110 = .ok (.iconst 1, 1) := dk_4 (dk_at dksX5_isInPair_4 17 rfl rfl)
theorem dX5_isInPair_111 : decode cX5_isInPair 111 = .ok (.goto 4, 3) := dk_167 0 4 (dk_at dksX5_isInPair_4 18 rfl rfl)
theorem dX5_isInPair_114 : decode cX5_isInPair 114 = .ok (.iconst 0, 1) := dk_3 (dk_at dksX5_isInPair_4 21 rfl rfl)
theorem dX5_isInPair_115 : decode cX5_isInPair 115 = .ok (.ior, 1) := dk_128 (dk_at dksX5_isInPair_4 22 rfl rfl)
theorem dX5_isInPair_116 : decode cX5_isInPair 116 = .ok (.istore 5, 2) := dk_54 5 (dk_at dksX5_isInPair_5 0 rfl rfl)
theorem dX5_isInPair_118 : decode cX5_isInPair 118 = .ok (.iinc 8 1, 3) := dk_132 8 1 (dk_at dksX5_isInPair_5 2 rfl rfl)
theorem dX5_isInPair_121 : decode cX5_isInPair 121 = .ok (.goto (-80), 3) := dk_167 255 176 (dk_at dksX5_isInPair_5 5 rfl rfl)
theorem dX5_isInPair_124 : decode cX5_isInPair 124 = .ok (.iinc 6 1, 3) := dk_132 6 1 (dk_at dksX5_isInPair_5 8 rfl rfl)
theorem dX5_isInPair_127 : decode cX5_isInPair 127 = .ok (.goto (-113), 3) := dk_167 255 143 (dk_at dksX5_isInPair_5 11 rfl rfl)
theorem dX5_isInPair_130 : decode cX5_isInPair 130 = .ok (.iload 5, 2) := dk_21 5 (dk_at dksX5_isInPair_5 14 rfl rfl)
theorem dX5_isInPair_132 : decode cX5_isInPair 132 = .ok (.ireturn, 1) := dk_172 (dk_at dksX5_isInPair_5 16 rfl rfl)
abbrev cX5_thingsIn : ByteArray := prog_4_method_10_code
def yX5_thingsIn : MethodName := ⟨RX5, "thingsIn", "(II)I"⟩
def dkwX5_thingsIn_0 : List UInt8 := [42, 27, 182, 0, 95, 8, 28, 104, 122, 16, 31, 126, 172]
abbrev dktX5_thingsIn_0 : List UInt8 := dkwX5_thingsIn_0 ++ []
theorem dksX5_thingsIn_0 : cX5_thingsIn.data.toList.drop 0 = dktX5_thingsIn_0 := by decide +kernel
theorem dX5_thingsIn_0 : decode cX5_thingsIn 0 = .ok (.aload_n 0, 1) := dk_42 (dk_at dksX5_thingsIn_0 0 rfl rfl)
theorem dX5_thingsIn_1 : decode cX5_thingsIn 1 = .ok (.iload_n 1, 1) := dk_27 (dk_at dksX5_thingsIn_0 1 rfl rfl)
theorem dX5_thingsIn_2 : decode cX5_thingsIn 2 = .ok (.invokevirtual 95, 3) := dk_182 0 95 (dk_at dksX5_thingsIn_0 2 rfl rfl)
theorem dX5_thingsIn_5 : decode cX5_thingsIn 5 = .ok (.iconst 5, 1) := dk_8 (dk_at dksX5_thingsIn_0 5 rfl rfl)
theorem dX5_thingsIn_6 : decode cX5_thingsIn 6 = .ok (.iload_n 2, 1) := dk_28 (dk_at dksX5_thingsIn_0 6 rfl rfl)
theorem dX5_thingsIn_7 : decode cX5_thingsIn 7 = .ok (.imul, 1) := dk_104 (dk_at dksX5_thingsIn_0 7 rfl rfl)
theorem dX5_thingsIn_8 : decode cX5_thingsIn 8 = .ok (.ishr, 1) := dk_122 (dk_at dksX5_thingsIn_0 8 rfl rfl)
theorem dX5_thingsIn_9 : decode cX5_thingsIn 9 = .ok (.bipush 31, 2) := dk_16 31 (dk_at dksX5_thingsIn_0 9 rfl rfl)
theorem dX5_thingsIn_11 : decode cX5_thingsIn 11 = .ok (.iand, 1) := dk_126 (dk_at dksX5_thingsIn_0 11 rfl rfl)
theorem dX5_thingsIn_12 : decode cX5_thingsIn 12 = .ok (.ireturn, 1) := dk_172 (dk_at dksX5_thingsIn_0 12 rfl rfl)
abbrev cX5_stepAll : ByteArray := prog_4_method_31_code
def yX5_stepAll : MethodName := ⟨RX5, "stepAll", "(ILEdgeLetters$Board;)I"⟩
def dkwX5_stepAll_1 : List UInt8 := [132, 3, 1, 42, 27, 44, 182, 0, 179, 54, 4, 167, 255, 231, 29, 172]
abbrev dktX5_stepAll_1 : List UInt8 := dkwX5_stepAll_1 ++ []
def dkwX5_stepAll_0 : List UInt8 := [3, 62, 42, 27, 44, 182, 0, 179, 54, 4, 21, 4, 2, 159, 0, 25, 42, 21, 4, 182, 0, 181, 54, 5]
abbrev dktX5_stepAll_0 : List UInt8 := dkwX5_stepAll_0 ++ dktX5_stepAll_1
theorem dksX5_stepAll_0 : cX5_stepAll.data.toList.drop 0 = dktX5_stepAll_0 := by decide +kernel
theorem dksX5_stepAll_1 : cX5_stepAll.data.toList.drop 24 = dktX5_stepAll_1 := dk_seg dksX5_stepAll_0 24 rfl rfl
theorem dX5_stepAll_0 : decode cX5_stepAll 0 = .ok (.iconst 0, 1) := dk_3 (dk_at dksX5_stepAll_0 0 rfl rfl)
theorem dX5_stepAll_1 : decode cX5_stepAll 1 = .ok (.istore_n 3, 1) := dk_62 (dk_at dksX5_stepAll_0 1 rfl rfl)
theorem dX5_stepAll_2 : decode cX5_stepAll 2 = .ok (.aload_n 0, 1) := dk_42 (dk_at dksX5_stepAll_0 2 rfl rfl)
theorem dX5_stepAll_3 : decode cX5_stepAll 3 = .ok (.iload_n 1, 1) := dk_27 (dk_at dksX5_stepAll_0 3 rfl rfl)
theorem dX5_stepAll_4 : decode cX5_stepAll 4 = .ok (.aload_n 2, 1) := dk_44 (dk_at dksX5_stepAll_0 4 rfl rfl)
theorem dX5_stepAll_5 : decode cX5_stepAll 5 = .ok (.invokevirtual 179, 3) := dk_182 0 179 (dk_at dksX5_stepAll_0 5 rfl rfl)
theorem dX5_stepAll_8 : decode cX5_stepAll 8 = .ok (.istore 4, 2) := dk_54 4 (dk_at dksX5_stepAll_0 8 rfl rfl)
theorem dX5_stepAll_10 : decode cX5_stepAll 10 = .ok (.iload 4, 2) := dk_21 4 (dk_at dksX5_stepAll_0 10 rfl rfl)
theorem dX5_stepAll_12 : decode cX5_stepAll 12 = .ok (.iconst (-1), 1) := dk_2 (dk_at dksX5_stepAll_0 12 rfl rfl)
theorem dX5_stepAll_13 : decode cX5_stepAll 13 = .ok (.if_icmp .eq 25, 3) := dk_159 0 25 (dk_at dksX5_stepAll_0 13 rfl rfl)
theorem dX5_stepAll_16 : decode cX5_stepAll 16 = .ok (.aload_n 0, 1) := dk_42 (dk_at dksX5_stepAll_0 16 rfl rfl)
theorem dX5_stepAll_17 : decode cX5_stepAll 17 = .ok (.iload 4, 2) := dk_21 4 (dk_at dksX5_stepAll_0 17 rfl rfl)
theorem dX5_stepAll_19 : decode cX5_stepAll 19 = .ok (.invokevirtual 181, 3) := dk_182 0 181 (dk_at dksX5_stepAll_0 19 rfl rfl)
theorem dX5_stepAll_22 : decode cX5_stepAll 22 = .ok (.istore 5, 2) := dk_54 5 (dk_at dksX5_stepAll_0 22 rfl rfl)
theorem dX5_stepAll_24 : decode cX5_stepAll 24 = .ok (.iinc 3 1, 3) := dk_132 3 1 (dk_at dksX5_stepAll_1 0 rfl rfl)
theorem dX5_stepAll_27 : decode cX5_stepAll 27 = .ok (.aload_n 0, 1) := dk_42 (dk_at dksX5_stepAll_1 3 rfl rfl)
theorem dX5_stepAll_28 : decode cX5_stepAll 28 = .ok (.iload_n 1, 1) := dk_27 (dk_at dksX5_stepAll_1 4 rfl rfl)
theorem dX5_stepAll_29 : decode cX5_stepAll 29 = .ok (.aload_n 2, 1) := dk_44 (dk_at dksX5_stepAll_1 5 rfl rfl)
theorem dX5_stepAll_30 : decode cX5_stepAll 30 = .ok (.invokevirtual 179, 3) := dk_182 0 179 (dk_at dksX5_stepAll_1 6 rfl rfl)
theorem dX5_stepAll_33 : decode cX5_stepAll 33 = .ok (.istore 4, 2) := dk_54 4 (dk_at dksX5_stepAll_1 9 rfl rfl)
theorem dX5_stepAll_35 : decode cX5_stepAll 35 = .ok (.goto (-25), 3) := dk_167 255 231 (dk_at dksX5_stepAll_1 11 rfl rfl)
theorem dX5_stepAll_38 : decode cX5_stepAll 38 = .ok (.iload_n 3, 1) := dk_29 (dk_at dksX5_stepAll_1 14 rfl rfl)
theorem dX5_stepAll_39 : decode cX5_stepAll 39 = .ok (.ireturn, 1) := dk_172 (dk_at dksX5_stepAll_1 15 rfl rfl)
abbrev cX5_make : ByteArray := prog_4_method_30_code
def yX5_make : MethodName := ⟨RX5, "make", "(I)I"⟩
def dkwX5_make_1 : List UInt8 := [27, 17, 3, 232, 108, 172]
abbrev dktX5_make_1 : List UInt8 := dkwX5_make_1 ++ []
def dkwX5_make_0 : List UInt8 := [42, 180, 0, 9, 27, 17, 3, 232, 112, 16, 10, 108, 92, 46, 4, 27, 16, 10, 112, 120, 2, 130, 126, 79]
abbrev dktX5_make_0 : List UInt8 := dkwX5_make_0 ++ dktX5_make_1
theorem dksX5_make_0 : cX5_make.data.toList.drop 0 = dktX5_make_0 := by decide +kernel
theorem dksX5_make_1 : cX5_make.data.toList.drop 24 = dktX5_make_1 := dk_seg dksX5_make_0 24 rfl rfl
theorem dX5_make_0 : decode cX5_make 0 = .ok (.aload_n 0, 1) := dk_42 (dk_at dksX5_make_0 0 rfl rfl)
theorem dX5_make_1 : decode cX5_make 1 = .ok (.getfield 9, 3) := dk_180 0 9 (dk_at dksX5_make_0 1 rfl rfl)
theorem dX5_make_4 : decode cX5_make 4 = .ok (.iload_n 1, 1) := dk_27 (dk_at dksX5_make_0 4 rfl rfl)
theorem dX5_make_5 : decode cX5_make 5 = .ok (.sipush 1000, 3) := dk_17 3 232 (dk_at dksX5_make_0 5 rfl rfl)
theorem dX5_make_8 : decode cX5_make 8 = .ok (.irem, 1) := dk_112 (dk_at dksX5_make_0 8 rfl rfl)
theorem dX5_make_9 : decode cX5_make 9 = .ok (.bipush 10, 2) := dk_16 10 (dk_at dksX5_make_0 9 rfl rfl)
theorem dX5_make_11 : decode cX5_make 11 = .ok (.idiv, 1) := dk_108 (dk_at dksX5_make_0 11 rfl rfl)
theorem dX5_make_12 : decode cX5_make 12 = .ok (.dup2, 1) := dk_92 (dk_at dksX5_make_0 12 rfl rfl)
theorem dX5_make_13 : decode cX5_make 13 = .ok (.iaload, 1) := dk_46 (dk_at dksX5_make_0 13 rfl rfl)
theorem dX5_make_14 : decode cX5_make 14 = .ok (.iconst 1, 1) := dk_4 (dk_at dksX5_make_0 14 rfl rfl)
theorem dX5_make_15 : decode cX5_make 15 = .ok (.iload_n 1, 1) := dk_27 (dk_at dksX5_make_0 15 rfl rfl)
theorem dX5_make_16 : decode cX5_make 16 = .ok (.bipush 10, 2) := dk_16 10 (dk_at dksX5_make_0 16 rfl rfl)
theorem dX5_make_18 : decode cX5_make 18 = .ok (.irem, 1) := dk_112 (dk_at dksX5_make_0 18 rfl rfl)
theorem dX5_make_19 : decode cX5_make 19 = .ok (.ishl, 1) := dk_120 (dk_at dksX5_make_0 19 rfl rfl)
theorem dX5_make_20 : decode cX5_make 20 = .ok (.iconst (-1), 1) := dk_2 (dk_at dksX5_make_0 20 rfl rfl)
theorem dX5_make_21 : decode cX5_make 21 = .ok (.ixor, 1) := dk_130 (dk_at dksX5_make_0 21 rfl rfl)
theorem dX5_make_22 : decode cX5_make 22 = .ok (.iand, 1) := dk_126 (dk_at dksX5_make_0 22 rfl rfl)
theorem dX5_make_23 : decode cX5_make 23 = .ok (.iastore, 1) := dk_79 (dk_at dksX5_make_0 23 rfl rfl)
theorem dX5_make_24 : decode cX5_make 24 = .ok (.iload_n 1, 1) := dk_27 (dk_at dksX5_make_1 0 rfl rfl)
theorem dX5_make_25 : decode cX5_make 25 = .ok (.sipush 1000, 3) := dk_17 3 232 (dk_at dksX5_make_1 1 rfl rfl)
theorem dX5_make_28 : decode cX5_make 28 = .ok (.idiv, 1) := dk_108 (dk_at dksX5_make_1 4 rfl rfl)
theorem dX5_make_29 : decode cX5_make 29 = .ok (.ireturn, 1) := dk_172 (dk_at dksX5_make_1 5 rfl rfl)
abbrev cX5_solutions : ByteArray := prog_4_method_35_code
def yX5_solutions : MethodName := ⟨RX5, "solutions", "(IZ)LEdgeLetters$Found;"⟩
def dkwX5_solutions_0 : List UInt8 := [187, 0, 189, 89, 27, 183, 0, 209, 78, 42, 182, 0, 123, 154, 0, 9, 42, 28, 45, 182, 0, 205, 45, 176]
abbrev dktX5_solutions_0 : List UInt8 := dkwX5_solutions_0 ++ []
theorem dksX5_solutions_0 : cX5_solutions.data.toList.drop 0 = dktX5_solutions_0 := by decide +kernel
theorem dX5_solutions_0 : decode cX5_solutions 0 = .ok (.new 189, 3) := dk_187 0 189 (dk_at dksX5_solutions_0 0 rfl rfl)
theorem dX5_solutions_3 : decode cX5_solutions 3 = .ok (.dup, 1) := dk_89 (dk_at dksX5_solutions_0 3 rfl rfl)
theorem dX5_solutions_4 : decode cX5_solutions 4 = .ok (.iload_n 1, 1) := dk_27 (dk_at dksX5_solutions_0 4 rfl rfl)
theorem dX5_solutions_5 : decode cX5_solutions 5 = .ok (.invokespecial 209, 3) := dk_183 0 209 (dk_at dksX5_solutions_0 5 rfl rfl)
theorem dX5_solutions_8 : decode cX5_solutions 8 = .ok (.astore_n 3, 1) := dk_78 (dk_at dksX5_solutions_0 8 rfl rfl)
theorem dX5_solutions_9 : decode cX5_solutions 9 = .ok (.aload_n 0, 1) := dk_42 (dk_at dksX5_solutions_0 9 rfl rfl)
theorem dX5_solutions_10 : decode cX5_solutions 10 = .ok (.invokevirtual 123, 3) := dk_182 0 123 (dk_at dksX5_solutions_0 10 rfl rfl)
theorem dX5_solutions_13 : decode cX5_solutions 13 = .ok (.ifCond .ne 9, 3) := dk_154 0 9 (dk_at dksX5_solutions_0 13 rfl rfl)
theorem dX5_solutions_16 : decode cX5_solutions 16 = .ok (.aload_n 0, 1) := dk_42 (dk_at dksX5_solutions_0 16 rfl rfl)
theorem dX5_solutions_17 : decode cX5_solutions 17 = .ok (.iload_n 2, 1) := dk_28 (dk_at dksX5_solutions_0 17 rfl rfl)
theorem dX5_solutions_18 : decode cX5_solutions 18 = .ok (.aload_n 3, 1) := dk_45 (dk_at dksX5_solutions_0 18 rfl rfl)
theorem dX5_solutions_19 : decode cX5_solutions 19 = .ok (.invokevirtual 205, 3) := dk_182 0 205 (dk_at dksX5_solutions_0 19 rfl rfl)
theorem dX5_solutions_22 : decode cX5_solutions 22 = .ok (.aload_n 3, 1) := dk_45 (dk_at dksX5_solutions_0 22 rfl rfl)
theorem dX5_solutions_23 : decode cX5_solutions 23 = .ok (.areturn, 1) := dk_176 (dk_at dksX5_solutions_0 23 rfl rfl)
abbrev cX5_search : ByteArray := prog_4_method_34_code
def yX5_search : MethodName := ⟨RX5, "search", "(ZLEdgeLetters$Found;)V"⟩
def dkwX5_search_3 : List UInt8 := [182, 0, 205, 21, 5, 21, 5, 4, 100, 126, 54, 5, 167, 255, 206, 42, 180, 0, 9, 29, 21, 4, 79, 177]
abbrev dktX5_search_3 : List UInt8 := dkwX5_search_3 ++ []
def dkwX5_search_2 : List UInt8 := [42, 180, 0, 9, 29, 21, 5, 184, 0, 199, 79, 42, 29, 182, 0, 202, 154, 0, 9, 42, 27, 44]
abbrev dktX5_search_2 : List UInt8 := dkwX5_search_2 ++ dktX5_search_3
def dkwX5_search_1 : List UInt8 := [29, 46, 54, 4, 21, 4, 54, 5, 21, 5, 153, 0, 51, 44, 180, 0, 194, 44, 180, 0, 196, 162, 0, 40]
abbrev dktX5_search_1 : List UInt8 := dkwX5_search_1 ++ dktX5_search_2
def dkwX5_search_0 : List UInt8 := [42, 27, 182, 0, 184, 62, 29, 2, 160, 0, 12, 44, 42, 180, 0, 9, 182, 0, 188, 177, 42, 180, 0, 9]
abbrev dktX5_search_0 : List UInt8 := dkwX5_search_0 ++ dktX5_search_1
theorem dksX5_search_0 : cX5_search.data.toList.drop 0 = dktX5_search_0 := by decide +kernel
theorem dksX5_search_1 : cX5_search.data.toList.drop 24 = dktX5_search_1 := dk_seg dksX5_search_0 24 rfl rfl
theorem dksX5_search_2 : cX5_search.data.toList.drop 48 = dktX5_search_2 := dk_seg dksX5_search_1 24 rfl rfl
theorem dksX5_search_3 : cX5_search.data.toList.drop 70 = dktX5_search_3 := dk_seg dksX5_search_2 22 rfl rfl
theorem dX5_search_0 : decode cX5_search 0 = .ok (.aload_n 0, 1) := dk_42 (dk_at dksX5_search_0 0 rfl rfl)
theorem dX5_search_1 : decode cX5_search 1 = .ok (.iload_n 1, 1) := dk_27 (dk_at dksX5_search_0 1 rfl rfl)
theorem dX5_search_2 : decode cX5_search 2 = .ok (.invokevirtual 184, 3) := dk_182 0 184 (dk_at dksX5_search_0 2 rfl rfl)
theorem dX5_search_5 : decode cX5_search 5 = .ok (.istore_n 3, 1) := dk_62 (dk_at dksX5_search_0 5 rfl rfl)
theorem dX5_search_6 : decode cX5_search 6 = .ok (.iload_n 3, 1) := dk_29 (dk_at dksX5_search_0 6 rfl rfl)
theorem dX5_search_7 : decode cX5_search 7 = .ok (.iconst (-1), 1) := dk_2 (dk_at dksX5_search_0 7 rfl rfl)
theorem dX5_search_8 : decode cX5_search 8 = .ok (.if_icmp .ne 12, 3) := dk_160 0 12 (dk_at dksX5_search_0 8 rfl rfl)
theorem dX5_search_11 : decode cX5_search 11 = .ok (.aload_n 2, 1) := dk_44 (dk_at dksX5_search_0 11 rfl rfl)
theorem dX5_search_12 : decode cX5_search 12 = .ok (.aload_n 0, 1) := dk_42 (dk_at dksX5_search_0 12 rfl rfl)
theorem dX5_search_13 : decode cX5_search 13 = .ok (.getfield 9, 3) := dk_180 0 9 (dk_at dksX5_search_0 13 rfl rfl)
theorem dX5_search_16 : decode cX5_search 16 = .ok (.invokevirtual 188, 3) := dk_182 0 188 (dk_at dksX5_search_0 16 rfl rfl)
theorem dX5_search_19 : decode cX5_search 19 = .ok (.return_, 1) := dk_177 (dk_at dksX5_search_0 19 rfl rfl)
theorem dX5_search_20 : decode cX5_search 20 = .ok (.aload_n 0, 1) := dk_42 (dk_at dksX5_search_0 20 rfl rfl)
theorem dX5_search_21 : decode cX5_search 21 = .ok (.getfield 9, 3) := dk_180 0 9 (dk_at dksX5_search_0 21 rfl rfl)
theorem dX5_search_24 : decode cX5_search 24 = .ok (.iload_n 3, 1) := dk_29 (dk_at dksX5_search_1 0 rfl rfl)
theorem dX5_search_25 : decode cX5_search 25 = .ok (.iaload, 1) := dk_46 (dk_at dksX5_search_1 1 rfl rfl)
theorem dX5_search_26 : decode cX5_search 26 = .ok (.istore 4, 2) := dk_54 4 (dk_at dksX5_search_1 2 rfl rfl)
theorem dX5_search_28 : decode cX5_search 28 = .ok (.iload 4, 2) := dk_21 4 (dk_at dksX5_search_1 4 rfl rfl)
theorem dX5_search_30 : decode cX5_search 30 = .ok (.istore 5, 2) := dk_54 5 (dk_at dksX5_search_1 6 rfl rfl)
theorem dX5_search_32 : decode cX5_search 32 = .ok (.iload 5, 2) := dk_21 5 (dk_at dksX5_search_1 8 rfl rfl)
theorem dX5_search_34 : decode cX5_search 34 = .ok (.ifCond .eq 51, 3) := dk_153 0 51 (dk_at dksX5_search_1 10 rfl rfl)
theorem dX5_search_37 : decode cX5_search 37 = .ok (.aload_n 2, 1) := dk_44 (dk_at dksX5_search_1 13 rfl rfl)
theorem dX5_search_38 : decode cX5_search 38 = .ok (.getfield 194, 3) := dk_180 0 194 (dk_at dksX5_search_1 14 rfl rfl)
theorem dX5_search_41 : decode cX5_search 41 = .ok (.aload_n 2, 1) := dk_44 (dk_at dksX5_search_1 17 rfl rfl)
theorem dX5_search_42 : decode cX5_search 42 = .ok (.getfield 196, 3) := dk_180 0 196 (dk_at dksX5_search_1 18 rfl rfl)
theorem dX5_search_45 : decode cX5_search 45 = .ok (.if_icmp .ge 40, 3) := dk_162 0 40 (dk_at dksX5_search_1 21 rfl rfl)
theorem dX5_search_48 : decode cX5_search 48 = .ok (.aload_n 0, 1) := dk_42 (dk_at dksX5_search_2 0 rfl rfl)
theorem dX5_search_49 : decode cX5_search 49 = .ok (.getfield 9, 3) := dk_180 0 9 (dk_at dksX5_search_2 1 rfl rfl)
theorem dX5_search_52 : decode cX5_search 52 = .ok (.iload_n 3, 1) := dk_29 (dk_at dksX5_search_2 4 rfl rfl)
theorem dX5_search_53 : decode cX5_search 53 = .ok (.iload 5, 2) := dk_21 5 (dk_at dksX5_search_2 5 rfl rfl)
theorem dX5_search_55 : decode cX5_search 55 = .ok (.invokestatic 199, 3) := dk_184 0 199 (dk_at dksX5_search_2 7 rfl rfl)
theorem dX5_search_58 : decode cX5_search 58 = .ok (.iastore, 1) := dk_79 (dk_at dksX5_search_2 10 rfl rfl)
theorem dX5_search_59 : decode cX5_search 59 = .ok (.aload_n 0, 1) := dk_42 (dk_at dksX5_search_2 11 rfl rfl)
theorem dX5_search_60 : decode cX5_search 60 = .ok (.iload_n 3, 1) := dk_29 (dk_at dksX5_search_2 12 rfl rfl)
theorem dX5_search_61 : decode cX5_search 61 = .ok (.invokevirtual 202, 3) := dk_182 0 202 (dk_at dksX5_search_2 13 rfl rfl)
theorem dX5_search_64 : decode cX5_search 64 = .ok (.ifCond .ne 9, 3) := dk_154 0 9 (dk_at dksX5_search_2 16 rfl rfl)
theorem dX5_search_67 : decode cX5_search 67 = .ok (.aload_n 0, 1) := dk_42 (dk_at dksX5_search_2 19 rfl rfl)
theorem dX5_search_68 : decode cX5_search 68 = .ok (.iload_n 1, 1) := dk_27 (dk_at dksX5_search_2 20 rfl rfl)
theorem dX5_search_69 : decode cX5_search 69 = .ok (.aload_n 2, 1) := dk_44 (dk_at dksX5_search_2 21 rfl rfl)
theorem dX5_search_70 : decode cX5_search 70 = .ok (.invokevirtual 205, 3) := dk_182 0 205 (dk_at dksX5_search_3 0 rfl rfl)
theorem dX5_search_73 : decode cX5_search 73 = .ok (.iload 5, 2) := dk_21 5 (dk_at dksX5_search_3 3 rfl rfl)
theorem dX5_search_75 : decode cX5_search 75 = .ok (.iload 5, 2) := dk_21 5 (dk_at dksX5_search_3 5 rfl rfl)
theorem dX5_search_77 : decode cX5_search 77 = .ok (.iconst 1, 1) := dk_4 (dk_at dksX5_search_3 7 rfl rfl)
theorem dX5_search_78 : decode cX5_search 78 = .ok (.isub, 1) := dk_100 (dk_at dksX5_search_3 8 rfl rfl)
theorem dX5_search_79 : decode cX5_search 79 = .ok (.iand, 1) := dk_126 (dk_at dksX5_search_3 9 rfl rfl)
theorem dX5_search_80 : decode cX5_search 80 = .ok (.istore 5, 2) := dk_54 5 (dk_at dksX5_search_3 10 rfl rfl)
theorem dX5_search_82 : decode cX5_search 82 = .ok (.goto (-50), 3) := dk_167 255 206 (dk_at dksX5_search_3 12 rfl rfl)
theorem dX5_search_85 : decode cX5_search 85 = .ok (.aload_n 0, 1) := dk_42 (dk_at dksX5_search_3 15 rfl rfl)
theorem dX5_search_86 : decode cX5_search 86 = .ok (.getfield 9, 3) := dk_180 0 9 (dk_at dksX5_search_3 16 rfl rfl)
theorem dX5_search_89 : decode cX5_search 89 = .ok (.iload_n 3, 1) := dk_29 (dk_at dksX5_search_3 19 rfl rfl)
theorem dX5_search_90 : decode cX5_search 90 = .ok (.iload 4, 2) := dk_21 4 (dk_at dksX5_search_3 20 rfl rfl)
theorem dX5_search_92 : decode cX5_search 92 = .ok (.iastore, 1) := dk_79 (dk_at dksX5_search_3 22 rfl rfl)
theorem dX5_search_93 : decode cX5_search 93 = .ok (.return_, 1) := dk_177 (dk_at dksX5_search_3 23 rfl rfl)
abbrev cX5_nextCell : ByteArray := prog_4_method_33_code
def yX5_nextCell : MethodName := ⟨RX5, "nextCell", "(Z)I"⟩
def dkwX5_nextCell_3 : List UInt8 := [61, 132, 3, 1, 167, 255, 186, 28, 172]
abbrev dktX5_nextCell_3 : List UInt8 := dkwX5_nextCell_3 ++ []
def dkwX5_nextCell_2 : List UInt8 := [167, 0, 4, 3, 54, 4, 42, 29, 182, 0, 120, 154, 0, 12, 21, 4, 153, 0, 7, 29, 167, 0, 4, 28]
abbrev dktX5_nextCell_2 : List UInt8 := dkwX5_nextCell_2 ++ dktX5_nextCell_3
def dkwX5_nextCell_1 : List UInt8 := [42, 180, 0, 9, 29, 46, 184, 0, 99, 42, 180, 0, 9, 28, 46, 184, 0, 99, 162, 0, 7, 4]
abbrev dktX5_nextCell_1 : List UInt8 := dkwX5_nextCell_1 ++ dktX5_nextCell_2
def dkwX5_nextCell_0 : List UInt8 := [2, 61, 3, 62, 29, 42, 180, 0, 20, 182, 0, 34, 162, 0, 65, 28, 2, 159, 0, 28, 27, 154, 0, 28]
abbrev dktX5_nextCell_0 : List UInt8 := dkwX5_nextCell_0 ++ dktX5_nextCell_1
theorem dksX5_nextCell_0 : cX5_nextCell.data.toList.drop 0 = dktX5_nextCell_0 := by decide +kernel
theorem dksX5_nextCell_1 : cX5_nextCell.data.toList.drop 24 = dktX5_nextCell_1 := dk_seg dksX5_nextCell_0 24 rfl rfl
theorem dksX5_nextCell_2 : cX5_nextCell.data.toList.drop 46 = dktX5_nextCell_2 := dk_seg dksX5_nextCell_1 22 rfl rfl
theorem dksX5_nextCell_3 : cX5_nextCell.data.toList.drop 70 = dktX5_nextCell_3 := dk_seg dksX5_nextCell_2 24 rfl rfl
theorem dX5_nextCell_0 : decode cX5_nextCell 0 = .ok (.iconst (-1), 1) := dk_2 (dk_at dksX5_nextCell_0 0 rfl rfl)
theorem dX5_nextCell_1 : decode cX5_nextCell 1 = .ok (.istore_n 2, 1) := dk_61 (dk_at dksX5_nextCell_0 1 rfl rfl)
theorem dX5_nextCell_2 : decode cX5_nextCell 2 = .ok (.iconst 0, 1) := dk_3 (dk_at dksX5_nextCell_0 2 rfl rfl)
theorem dX5_nextCell_3 : decode cX5_nextCell 3 = .ok (.istore_n 3, 1) := dk_62 (dk_at dksX5_nextCell_0 3 rfl rfl)
theorem dX5_nextCell_4 : decode cX5_nextCell 4 = .ok (.iload_n 3, 1) := dk_29 (dk_at dksX5_nextCell_0 4 rfl rfl)
theorem dX5_nextCell_5 : decode cX5_nextCell 5 = .ok (.aload_n 0, 1) := dk_42 (dk_at dksX5_nextCell_0 5 rfl rfl)
theorem dX5_nextCell_6 : decode cX5_nextCell 6 = .ok (.getfield 20, 3) := dk_180 0 20 (dk_at dksX5_nextCell_0 6 rfl rfl)
theorem dX5_nextCell_9 : decode cX5_nextCell 9 = .ok (.invokevirtual 34, 3) := dk_182 0 34 (dk_at dksX5_nextCell_0 9 rfl rfl)
theorem dX5_nextCell_12 : decode cX5_nextCell 12 = .ok (.if_icmp .ge 65, 3) := dk_162 0 65 (dk_at dksX5_nextCell_0 12 rfl rfl)
theorem dX5_nextCell_15 : decode cX5_nextCell 15 = .ok (.iload_n 2, 1) := dk_28 (dk_at dksX5_nextCell_0 15 rfl rfl)
theorem dX5_nextCell_16 : decode cX5_nextCell 16 = .ok (.iconst (-1), 1) := dk_2 (dk_at dksX5_nextCell_0 16 rfl rfl)
theorem dX5_nextCell_17 : decode cX5_nextCell 17 = .ok (.if_icmp .eq 28, 3) := dk_159 0 28 (dk_at dksX5_nextCell_0 17 rfl rfl)
theorem dX5_nextCell_20 : decode cX5_nextCell 20 = .ok (.iload_n 1, 1) := dk_27 (dk_at dksX5_nextCell_0 20 rfl rfl)
theorem dX5_nextCell_21 : decode cX5_nextCell 21 = .ok (.ifCond .ne 28, 3) := dk_154 0 28 (dk_at dksX5_nextCell_0 21 rfl rfl)
theorem dX5_nextCell_24 : decode cX5_nextCell 24 = .ok (.aload_n 0, 1) := dk_42 (dk_at dksX5_nextCell_1 0 rfl rfl)
theorem dX5_nextCell_25 : decode cX5_nextCell 25 = .ok (.getfield 9, 3) := dk_180 0 9 (dk_at dksX5_nextCell_1 1 rfl rfl)
theorem dX5_nextCell_28 : decode cX5_nextCell 28 = .ok (.iload_n 3, 1) := dk_29 (dk_at dksX5_nextCell_1 4 rfl rfl)
theorem dX5_nextCell_29 : decode cX5_nextCell 29 = .ok (.iaload, 1) := dk_46 (dk_at dksX5_nextCell_1 5 rfl rfl)
theorem dX5_nextCell_30 : decode cX5_nextCell 30 = .ok (.invokestatic 99, 3) := dk_184 0 99 (dk_at dksX5_nextCell_1 6 rfl rfl)
theorem dX5_nextCell_33 : decode cX5_nextCell 33 = .ok (.aload_n 0, 1) := dk_42 (dk_at dksX5_nextCell_1 9 rfl rfl)
theorem dX5_nextCell_34 : decode cX5_nextCell 34 = .ok (.getfield 9, 3) := dk_180 0 9 (dk_at dksX5_nextCell_1 10 rfl rfl)
theorem dX5_nextCell_37 : decode cX5_nextCell 37 = .ok (.iload_n 2, 1) := dk_28 (dk_at dksX5_nextCell_1 13 rfl rfl)
theorem dX5_nextCell_38 : decode cX5_nextCell 38 = .ok (.iaload, 1) := dk_46 (dk_at dksX5_nextCell_1 14 rfl rfl)
theorem dX5_nextCell_39 : decode cX5_nextCell 39 = .ok (.invokestatic 99, 3) := dk_184 0 99 (dk_at dksX5_nextCell_1 15 rfl rfl)
theorem dX5_nextCell_42 : decode cX5_nextCell 42 = .ok (.if_icmp .ge 7, 3) := dk_162 0 7 (dk_at dksX5_nextCell_1 18 rfl rfl)
theorem dX5_nextCell_45 : decode cX5_nextCell 45 = .ok (.iconst 1, 1) := dk_4 (dk_at dksX5_nextCell_1 21 rfl rfl)
theorem dX5_nextCell_46 : decode cX5_nextCell 46 = .ok (.goto 4, 3) := dk_167 0 4 (dk_at dksX5_nextCell_2 0 rfl rfl)
theorem dX5_nextCell_49 : decode cX5_nextCell 49 = .ok (.iconst 0, 1) := dk_3 (dk_at dksX5_nextCell_2 3 rfl rfl)
theorem dX5_nextCell_50 : decode cX5_nextCell 50 = .ok (.istore 4, 2) := dk_54 4 (dk_at dksX5_nextCell_2 4 rfl rfl)
theorem dX5_nextCell_52 : decode cX5_nextCell 52 = .ok (.aload_n 0, 1) := dk_42 (dk_at dksX5_nextCell_2 6 rfl rfl)
theorem dX5_nextCell_53 : decode cX5_nextCell 53 = .ok (.iload_n 3, 1) := dk_29 (dk_at dksX5_nextCell_2 7 rfl rfl)
theorem dX5_nextCell_54 : decode cX5_nextCell 54 = .ok (.invokevirtual 120, 3) := dk_182 0 120 (dk_at dksX5_nextCell_2 8 rfl rfl)
theorem dX5_nextCell_57 : decode cX5_nextCell 57 = .ok (.ifCond .ne 12, 3) := dk_154 0 12 (dk_at dksX5_nextCell_2 11 rfl rfl)
theorem dX5_nextCell_60 : decode cX5_nextCell 60 = .ok (.iload 4, 2) := dk_21 4 (dk_at dksX5_nextCell_2 14 rfl rfl)
theorem dX5_nextCell_62 : decode cX5_nextCell 62 = .ok (.ifCond .eq 7, 3) := dk_153 0 7 (dk_at dksX5_nextCell_2 16 rfl rfl)
theorem dX5_nextCell_65 : decode cX5_nextCell 65 = .ok (.iload_n 3, 1) := dk_29 (dk_at dksX5_nextCell_2 19 rfl rfl)
theorem dX5_nextCell_66 : decode cX5_nextCell 66 = .ok (.goto 4, 3) := dk_167 0 4 (dk_at dksX5_nextCell_2 20 rfl rfl)
theorem dX5_nextCell_69 : decode cX5_nextCell 69 = .ok (.iload_n 2, 1) := dk_28 (dk_at dksX5_nextCell_2 23 rfl rfl)
theorem dX5_nextCell_70 : decode cX5_nextCell 70 = .ok (.istore_n 2, 1) := dk_61 (dk_at dksX5_nextCell_3 0 rfl rfl)
theorem dX5_nextCell_71 : decode cX5_nextCell 71 = .ok (.iinc 3 1, 3) := dk_132 3 1 (dk_at dksX5_nextCell_3 1 rfl rfl)
theorem dX5_nextCell_74 : decode cX5_nextCell 74 = .ok (.goto (-70), 3) := dk_167 255 186 (dk_at dksX5_nextCell_3 4 rfl rfl)
theorem dX5_nextCell_77 : decode cX5_nextCell 77 = .ok (.iload_n 2, 1) := dk_28 (dk_at dksX5_nextCell_3 7 rfl rfl)
theorem dX5_nextCell_78 : decode cX5_nextCell 78 = .ok (.ireturn, 1) := dk_172 (dk_at dksX5_nextCell_3 8 rfl rfl)
abbrev cX5_isBrokenAt : ByteArray := prog_4_method_14_code
def yX5_isBrokenAt : MethodName := ⟨RX5, "isBrokenAt", "(I)Z"⟩
def dkwX5_isBrokenAt_1 : List UInt8 := [184, 0, 104, 182, 0, 114, 61, 29, 29, 4, 100, 126, 62, 167, 255, 233, 28, 172]
abbrev dktX5_isBrokenAt_1 : List UInt8 := dkwX5_isBrokenAt_1 ++ []
def dkwX5_isBrokenAt_0 : List UInt8 := [3, 61, 42, 180, 0, 20, 180, 0, 117, 27, 46, 62, 29, 153, 0, 25, 28, 154, 0, 21, 42, 29]
abbrev dktX5_isBrokenAt_0 : List UInt8 := dkwX5_isBrokenAt_0 ++ dktX5_isBrokenAt_1
theorem dksX5_isBrokenAt_0 : cX5_isBrokenAt.data.toList.drop 0 = dktX5_isBrokenAt_0 := by decide +kernel
theorem dksX5_isBrokenAt_1 : cX5_isBrokenAt.data.toList.drop 22 = dktX5_isBrokenAt_1 := dk_seg dksX5_isBrokenAt_0 22 rfl rfl
theorem dX5_isBrokenAt_0 : decode cX5_isBrokenAt 0 = .ok (.iconst 0, 1) := dk_3 (dk_at dksX5_isBrokenAt_0 0 rfl rfl)
theorem dX5_isBrokenAt_1 : decode cX5_isBrokenAt 1 = .ok (.istore_n 2, 1) := dk_61 (dk_at dksX5_isBrokenAt_0 1 rfl rfl)
theorem dX5_isBrokenAt_2 : decode cX5_isBrokenAt 2 = .ok (.aload_n 0, 1) := dk_42 (dk_at dksX5_isBrokenAt_0 2 rfl rfl)
theorem dX5_isBrokenAt_3 : decode cX5_isBrokenAt 3 = .ok (.getfield 20, 3) := dk_180 0 20 (dk_at dksX5_isBrokenAt_0 3 rfl rfl)
theorem dX5_isBrokenAt_6 : decode cX5_isBrokenAt 6 = .ok (.getfield 117, 3) := dk_180 0 117 (dk_at dksX5_isBrokenAt_0 6 rfl rfl)
theorem dX5_isBrokenAt_9 : decode cX5_isBrokenAt 9 = .ok (.iload_n 1, 1) := dk_27 (dk_at dksX5_isBrokenAt_0 9 rfl rfl)
theorem dX5_isBrokenAt_10 : decode cX5_isBrokenAt 10 = .ok (.iaload, 1) := dk_46 (dk_at dksX5_isBrokenAt_0 10 rfl rfl)
theorem dX5_isBrokenAt_11 : decode cX5_isBrokenAt 11 = .ok (.istore_n 3, 1) := dk_62 (dk_at dksX5_isBrokenAt_0 11 rfl rfl)
theorem dX5_isBrokenAt_12 : decode cX5_isBrokenAt 12 = .ok (.iload_n 3, 1) := dk_29 (dk_at dksX5_isBrokenAt_0 12 rfl rfl)
theorem dX5_isBrokenAt_13 : decode cX5_isBrokenAt 13 = .ok (.ifCond .eq 25, 3) := dk_153 0 25 (dk_at dksX5_isBrokenAt_0 13 rfl rfl)
theorem dX5_isBrokenAt_16 : decode cX5_isBrokenAt 16 = .ok (.iload_n 2, 1) := dk_28 (dk_at dksX5_isBrokenAt_0 16 rfl rfl)
theorem dX5_isBrokenAt_17 : decode cX5_isBrokenAt 17 = .ok (.ifCond .ne 21, 3) := dk_154 0 21 (dk_at dksX5_isBrokenAt_0 17 rfl rfl)
theorem dX5_isBrokenAt_20 : decode cX5_isBrokenAt 20 = .ok (.aload_n 0, 1) := dk_42 (dk_at dksX5_isBrokenAt_0 20 rfl rfl)
theorem dX5_isBrokenAt_21 : decode cX5_isBrokenAt 21 = .ok (.iload_n 3, 1) := dk_29 (dk_at dksX5_isBrokenAt_0 21 rfl rfl)
theorem dX5_isBrokenAt_22 : decode cX5_isBrokenAt 22 = .ok (.invokestatic 104, 3) := dk_184 0 104 (dk_at dksX5_isBrokenAt_1 0 rfl rfl)
theorem dX5_isBrokenAt_25 : decode cX5_isBrokenAt 25 = .ok (.invokevirtual 114, 3) := dk_182 0 114 (dk_at dksX5_isBrokenAt_1 3 rfl rfl)
theorem dX5_isBrokenAt_28 : decode cX5_isBrokenAt 28 = .ok (.istore_n 2, 1) := dk_61 (dk_at dksX5_isBrokenAt_1 6 rfl rfl)
theorem dX5_isBrokenAt_29 : decode cX5_isBrokenAt 29 = .ok (.iload_n 3, 1) := dk_29 (dk_at dksX5_isBrokenAt_1 7 rfl rfl)
theorem dX5_isBrokenAt_30 : decode cX5_isBrokenAt 30 = .ok (.iload_n 3, 1) := dk_29 (dk_at dksX5_isBrokenAt_1 8 rfl rfl)
theorem dX5_isBrokenAt_31 : decode cX5_isBrokenAt 31 = .ok (.iconst 1, 1) := dk_4 (dk_at dksX5_isBrokenAt_1 9 rfl rfl)
theorem dX5_isBrokenAt_32 : decode cX5_isBrokenAt 32 = .ok (.isub, 1) := dk_100 (dk_at dksX5_isBrokenAt_1 10 rfl rfl)
theorem dX5_isBrokenAt_33 : decode cX5_isBrokenAt 33 = .ok (.iand, 1) := dk_126 (dk_at dksX5_isBrokenAt_1 11 rfl rfl)
theorem dX5_isBrokenAt_34 : decode cX5_isBrokenAt 34 = .ok (.istore_n 3, 1) := dk_62 (dk_at dksX5_isBrokenAt_1 12 rfl rfl)
theorem dX5_isBrokenAt_35 : decode cX5_isBrokenAt 35 = .ok (.goto (-23), 3) := dk_167 255 233 (dk_at dksX5_isBrokenAt_1 13 rfl rfl)
theorem dX5_isBrokenAt_38 : decode cX5_isBrokenAt 38 = .ok (.iload_n 2, 1) := dk_28 (dk_at dksX5_isBrokenAt_1 16 rfl rfl)
theorem dX5_isBrokenAt_39 : decode cX5_isBrokenAt 39 = .ok (.ireturn, 1) := dk_172 (dk_at dksX5_isBrokenAt_1 17 rfl rfl)
abbrev cX5_countByRows : ByteArray := prog_4_method_36_code
def yX5_countByRows : MethodName := ⟨RX5, "countByRows", "(II)I"⟩
def dkwX5_countByRows_6 : List UInt8 := [180, 0, 20, 180, 0, 53, 184, 0, 40, 132, 5, 1, 167, 255, 167, 28, 21, 4, 184, 0, 216, 172]
abbrev dktX5_countByRows_6 : List UInt8 := dkwX5_countByRows_6 ++ []
def dkwX5_countByRows_5 : List UInt8 := [182, 0, 212, 96, 54, 4, 45, 3, 42, 180, 0, 9, 42, 180, 0, 20, 180, 0, 53, 27, 104, 42]
abbrev dktX5_countByRows_5 : List UInt8 := dkwX5_countByRows_5 ++ dktX5_countByRows_6
def dkwX5_countByRows_4 : List UInt8 := [58, 6, 42, 27, 25, 6, 182, 0, 85, 153, 0, 44, 21, 4, 42, 27, 28, 21, 4, 100, 25, 6]
abbrev dktX5_countByRows_4 : List UInt8 := dkwX5_countByRows_4 ++ dktX5_countByRows_5
def dkwX5_countByRows_3 : List UInt8 := [182, 0, 88, 162, 0, 80, 21, 4, 28, 162, 0, 74, 42, 180, 0, 20, 180, 0, 64, 21, 5, 182, 0, 91]
abbrev dktX5_countByRows_3 : List UInt8 := dkwX5_countByRows_3 ++ dktX5_countByRows_4
def dkwX5_countByRows_2 : List UInt8 := [180, 0, 20, 180, 0, 53, 184, 0, 40, 3, 54, 4, 3, 54, 5, 21, 5, 42, 180, 0, 20, 180, 0, 64]
abbrev dktX5_countByRows_2 : List UInt8 := dkwX5_countByRows_2 ++ dktX5_countByRows_3
def dkwX5_countByRows_1 : List UInt8 := [42, 180, 0, 17, 27, 50, 78, 42, 180, 0, 9, 42, 180, 0, 20, 180, 0, 53, 27, 104, 45, 3, 42]
abbrev dktX5_countByRows_1 : List UInt8 := dkwX5_countByRows_1 ++ dktX5_countByRows_2
def dkwX5_countByRows_0 : List UInt8 := [27, 42, 180, 0, 20, 180, 0, 53, 160, 0, 16, 42, 182, 0, 123, 153, 0, 7, 3, 167, 0, 4, 4, 172]
abbrev dktX5_countByRows_0 : List UInt8 := dkwX5_countByRows_0 ++ dktX5_countByRows_1
theorem dksX5_countByRows_0 : cX5_countByRows.data.toList.drop 0 = dktX5_countByRows_0 := by decide +kernel
theorem dksX5_countByRows_1 : cX5_countByRows.data.toList.drop 24 = dktX5_countByRows_1 := dk_seg dksX5_countByRows_0 24 rfl rfl
theorem dksX5_countByRows_2 : cX5_countByRows.data.toList.drop 47 = dktX5_countByRows_2 := dk_seg dksX5_countByRows_1 23 rfl rfl
theorem dksX5_countByRows_3 : cX5_countByRows.data.toList.drop 71 = dktX5_countByRows_3 := dk_seg dksX5_countByRows_2 24 rfl rfl
theorem dksX5_countByRows_4 : cX5_countByRows.data.toList.drop 95 = dktX5_countByRows_4 := dk_seg dksX5_countByRows_3 24 rfl rfl
theorem dksX5_countByRows_5 : cX5_countByRows.data.toList.drop 117 = dktX5_countByRows_5 := dk_seg dksX5_countByRows_4 22 rfl rfl
theorem dksX5_countByRows_6 : cX5_countByRows.data.toList.drop 139 = dktX5_countByRows_6 := dk_seg dksX5_countByRows_5 22 rfl rfl
theorem dX5_countByRows_0 : decode cX5_countByRows 0 = .ok (.iload_n 1, 1) := dk_27 (dk_at dksX5_countByRows_0 0 rfl rfl)
theorem dX5_countByRows_1 : decode cX5_countByRows 1 = .ok (.aload_n 0, 1) := dk_42 (dk_at dksX5_countByRows_0 1 rfl rfl)
theorem dX5_countByRows_2 : decode cX5_countByRows 2 = .ok (.getfield 20, 3) := dk_180 0 20 (dk_at dksX5_countByRows_0 2 rfl rfl)
theorem dX5_countByRows_5 : decode cX5_countByRows 5 = .ok (.getfield 53, 3) := dk_180 0 53 (dk_at dksX5_countByRows_0 5 rfl rfl)
theorem dX5_countByRows_8 : decode cX5_countByRows 8 = .ok (.if_icmp .ne 16, 3) := dk_160 0 16 (dk_at dksX5_countByRows_0 8 rfl rfl)
theorem dX5_countByRows_11 : decode cX5_countByRows 11 = .ok (.aload_n 0, 1) := dk_42 (dk_at dksX5_countByRows_0 11 rfl rfl)
theorem dX5_countByRows_12 : decode cX5_countByRows 12 = .ok (.invokevirtual 123, 3) := dk_182 0 123 (dk_at dksX5_countByRows_0 12 rfl rfl)
theorem dX5_countByRows_15 : decode cX5_countByRows 15 = .ok (.ifCond .eq 7, 3) := dk_153 0 7 (dk_at dksX5_countByRows_0 15 rfl rfl)
theorem dX5_countByRows_18 : decode cX5_countByRows 18 = .ok (.iconst 0, 1) := dk_3 (dk_at dksX5_countByRows_0 18 rfl rfl)
theorem dX5_countByRows_19 : decode cX5_countByRows 19 = .ok (.goto 4, 3) := dk_167 0 4 (dk_at dksX5_countByRows_0 19 rfl rfl)
theorem dX5_countByRows_22 : decode cX5_countByRows 22 = .ok (.iconst 1, 1) := dk_4 (dk_at dksX5_countByRows_0 22 rfl rfl)
theorem dX5_countByRows_23 : decode cX5_countByRows 23 = .ok (.ireturn, 1) := dk_172 (dk_at dksX5_countByRows_0 23 rfl rfl)
theorem dX5_countByRows_24 : decode cX5_countByRows 24 = .ok (.aload_n 0, 1) := dk_42 (dk_at dksX5_countByRows_1 0 rfl rfl)
theorem dX5_countByRows_25 : decode cX5_countByRows 25 = .ok (.getfield 17, 3) := dk_180 0 17 (dk_at dksX5_countByRows_1 1 rfl rfl)
theorem dX5_countByRows_28 : decode cX5_countByRows 28 = .ok (.iload_n 1, 1) := dk_27 (dk_at dksX5_countByRows_1 4 rfl rfl)
theorem dX5_countByRows_29 : decode cX5_countByRows 29 = .ok (.aaload, 1) := dk_50 (dk_at dksX5_countByRows_1 5 rfl rfl)
theorem dX5_countByRows_30 : decode cX5_countByRows 30 = .ok (.astore_n 3, 1) := dk_78 (dk_at dksX5_countByRows_1 6 rfl rfl)
theorem dX5_countByRows_31 : decode cX5_countByRows 31 = .ok (.aload_n 0, 1) := dk_42 (dk_at dksX5_countByRows_1 7 rfl rfl)
theorem dX5_countByRows_32 : decode cX5_countByRows 32 = .ok (.getfield 9, 3) := dk_180 0 9 (dk_at dksX5_countByRows_1 8 rfl rfl)
theorem dX5_countByRows_35 : decode cX5_countByRows 35 = .ok (.aload_n 0, 1) := dk_42 (dk_at dksX5_countByRows_1 11 rfl rfl)
theorem dX5_countByRows_36 : decode cX5_countByRows 36 = .ok (.getfield 20, 3) := dk_180 0 20 (dk_at dksX5_countByRows_1 12 rfl rfl)
theorem dX5_countByRows_39 : decode cX5_countByRows 39 = .ok (.getfield 53, 3) := dk_180 0 53 (dk_at dksX5_countByRows_1 15 rfl rfl)
theorem dX5_countByRows_42 : decode cX5_countByRows 42 = .ok (.iload_n 1, 1) := dk_27 (dk_at dksX5_countByRows_1 18 rfl rfl)
theorem dX5_countByRows_43 : decode cX5_countByRows 43 = .ok (.imul, 1) := dk_104 (dk_at dksX5_countByRows_1 19 rfl rfl)
theorem dX5_countByRows_44 : decode cX5_countByRows 44 = .ok (.aload_n 3, 1) := dk_45 (dk_at dksX5_countByRows_1 20 rfl rfl)
theorem dX5_countByRows_45 : decode cX5_countByRows 45 = .ok (.iconst 0, 1) := dk_3 (dk_at dksX5_countByRows_1 21 rfl rfl)
theorem dX5_countByRows_46 : decode cX5_countByRows 46 = .ok (.aload_n 0, 1) := dk_42 (dk_at dksX5_countByRows_1 22 rfl rfl)
theorem dX5_countByRows_47 : decode cX5_countByRows 47 = .ok (.getfield 20, 3) := dk_180 0 20 (dk_at dksX5_countByRows_2 0 rfl rfl)
theorem dX5_countByRows_50 : decode cX5_countByRows 50 = .ok (.getfield 53, 3) := dk_180 0 53 (dk_at dksX5_countByRows_2 3 rfl rfl)
theorem dX5_countByRows_53 : decode cX5_countByRows 53 = .ok (.invokestatic 40, 3) := dk_184 0 40 (dk_at dksX5_countByRows_2 6 rfl rfl)
theorem dX5_countByRows_56 : decode cX5_countByRows 56 = .ok (.iconst 0, 1) := dk_3 (dk_at dksX5_countByRows_2 9 rfl rfl)
theorem dX5_countByRows_57 : decode cX5_countByRows 57 = .ok (.istore 4, 2) := dk_54 4 (dk_at dksX5_countByRows_2 10 rfl rfl)
theorem dX5_countByRows_59 : decode cX5_countByRows 59 = .ok (.iconst 0, 1) := dk_3 (dk_at dksX5_countByRows_2 12 rfl rfl)
theorem dX5_countByRows_60 : decode cX5_countByRows 60 = .ok (.istore 5, 2) := dk_54 5 (dk_at dksX5_countByRows_2 13 rfl rfl)
theorem dX5_countByRows_62 : decode cX5_countByRows 62 = .ok (.iload 5, 2) := dk_21 5 (dk_at dksX5_countByRows_2 15 rfl rfl)
theorem dX5_countByRows_64 : decode cX5_countByRows 64 = .ok (.aload_n 0, 1) := dk_42 (dk_at dksX5_countByRows_2 17 rfl rfl)
theorem dX5_countByRows_65 : decode cX5_countByRows 65 = .ok (.getfield 20, 3) := dk_180 0 20 (dk_at dksX5_countByRows_2 18 rfl rfl)
theorem dX5_countByRows_68 : decode cX5_countByRows 68 = .ok (.getfield 64, 3) := dk_180 0 64 (dk_at dksX5_countByRows_2 21 rfl rfl)
theorem dX5_countByRows_71 : decode cX5_countByRows 71 = .ok (.invokevirtual 88, 3) := dk_182 0 88 (dk_at dksX5_countByRows_3 0 rfl rfl)
theorem dX5_countByRows_74 : decode cX5_countByRows 74 = .ok (.if_icmp .ge 80, 3) := dk_162 0 80 (dk_at dksX5_countByRows_3 3 rfl rfl)
theorem dX5_countByRows_77 : decode cX5_countByRows 77 = .ok (.iload 4, 2) := dk_21 4 (dk_at dksX5_countByRows_3 6 rfl rfl)
theorem dX5_countByRows_79 : decode cX5_countByRows 79 = .ok (.iload_n 2, 1) := dk_28 (dk_at dksX5_countByRows_3 8 rfl rfl)
theorem dX5_countByRows_80 : decode cX5_countByRows 80 = .ok (.if_icmp .ge 74, 3) := dk_162 0 74 (dk_at dksX5_countByRows_3 9 rfl rfl)
theorem dX5_countByRows_83 : decode cX5_countByRows 83 = .ok (.aload_n 0, 1) := dk_42 (dk_at dksX5_countByRows_3 12 rfl rfl)
theorem dX5_countByRows_84 : decode cX5_countByRows 84 = .ok (.getfield 20, 3) := dk_180 0 20 (dk_at dksX5_countByRows_3 13 rfl rfl)
theorem dX5_countByRows_87 : decode cX5_countByRows 87 = .ok (.getfield 64, 3) := dk_180 0 64 (dk_at dksX5_countByRows_3 16 rfl rfl)
theorem dX5_countByRows_90 : decode cX5_countByRows 90 = .ok (.iload 5, 2) := dk_21 5 (dk_at dksX5_countByRows_3 19 rfl rfl)
theorem dX5_countByRows_92 : decode cX5_countByRows 92 = .ok (.invokevirtual 91, 3) := dk_182 0 91 (dk_at dksX5_countByRows_3 21 rfl rfl)
theorem dX5_countByRows_95 : decode cX5_countByRows 95 = .ok (.astore 6, 2) := dk_58 6 (dk_at dksX5_countByRows_4 0 rfl rfl)
theorem dX5_countByRows_97 : decode cX5_countByRows 97 = .ok (.aload_n 0, 1) := dk_42 (dk_at dksX5_countByRows_4 2 rfl rfl)
theorem dX5_countByRows_98 : decode cX5_countByRows 98 = .ok (.iload_n 1, 1) := dk_27 (dk_at dksX5_countByRows_4 3 rfl rfl)
theorem dX5_countByRows_99 : decode cX5_countByRows 99 = .ok (.aload 6, 2) := dk_25 6 (dk_at dksX5_countByRows_4 4 rfl rfl)
theorem dX5_countByRows_101 : decode cX5_countByRows 101 = .ok (.invokevirtual 85, 3) := dk_182 0 85 (dk_at dksX5_countByRows_4 6 rfl rfl)
theorem dX5_countByRows_104 : decode cX5_countByRows 104 = .ok (.ifCond .eq 44, 3) := dk_153 0 44 (dk_at dksX5_countByRows_4 9 rfl rfl)
theorem dX5_countByRows_107 : decode cX5_countByRows 107 = .ok (.iload 4, 2) := dk_21 4 (dk_at dksX5_countByRows_4 12 rfl rfl)
theorem dX5_countByRows_109 : decode cX5_countByRows 109 = .ok (.aload_n 0, 1) := dk_42 (dk_at dksX5_countByRows_4 14 rfl rfl)
theorem dX5_countByRows_110 : decode cX5_countByRows 110 = .ok (.iload_n 1, 1) := dk_27 (dk_at dksX5_countByRows_4 15 rfl rfl)
theorem dX5_countByRows_111 : decode cX5_countByRows 111 = .ok (.iload_n 2, 1) := dk_28 (dk_at dksX5_countByRows_4 16 rfl rfl)
theorem dX5_countByRows_112 : decode cX5_countByRows 112 = .ok (.iload 4, 2) := dk_21 4 (dk_at dksX5_countByRows_4 17 rfl rfl)
theorem dX5_countByRows_114 : decode cX5_countByRows 114 = .ok (.isub, 1) := dk_100 (dk_at dksX5_countByRows_4 19 rfl rfl)
theorem dX5_countByRows_115 : decode cX5_countByRows 115 = .ok (.aload 6, 2) := dk_25 6 (dk_at dksX5_countByRows_4 20 rfl rfl)
theorem dX5_countByRows_117 : decode cX5_countByRows 117 = .ok (.invokevirtual 212, 3) := dk_182 0 212 (dk_at dksX5_countByRows_5 0 rfl rfl)
theorem dX5_countByRows_120 : decode cX5_countByRows 120 = .ok (.iadd, 1) := dk_96 (dk_at dksX5_countByRows_5 3 rfl rfl)
theorem dX5_countByRows_121 : decode cX5_countByRows 121 = .ok (.istore 4, 2) := dk_54 4 (dk_at dksX5_countByRows_5 4 rfl rfl)
theorem dX5_countByRows_123 : decode cX5_countByRows 123 = .ok (.aload_n 3, 1) := dk_45 (dk_at dksX5_countByRows_5 6 rfl rfl)
theorem dX5_countByRows_124 : decode cX5_countByRows 124 = .ok (.iconst 0, 1) := dk_3 (dk_at dksX5_countByRows_5 7 rfl rfl)
theorem dX5_countByRows_125 : decode cX5_countByRows 125 = .ok (.aload_n 0, 1) := dk_42 (dk_at dksX5_countByRows_5 8 rfl rfl)
theorem dX5_countByRows_126 : decode cX5_countByRows 126 = .ok (.getfield 9, 3) := dk_180 0 9 (dk_at dksX5_countByRows_5 9 rfl rfl)
theorem dX5_countByRows_129 : decode cX5_countByRows 129 = .ok (.aload_n 0, 1) := dk_42 (dk_at dksX5_countByRows_5 12 rfl rfl)
theorem dX5_countByRows_130 : decode cX5_countByRows 130 = .ok (.getfield 20, 3) := dk_180 0 20 (dk_at dksX5_countByRows_5 13 rfl rfl)
theorem dX5_countByRows_133 : decode cX5_countByRows 133 = .ok (.getfield 53, 3) := dk_180 0 53 (dk_at dksX5_countByRows_5 16 rfl rfl)
theorem dX5_countByRows_136 : decode cX5_countByRows 136 = .ok (.iload_n 1, 1) := dk_27 (dk_at dksX5_countByRows_5 19 rfl rfl)
theorem dX5_countByRows_137 : decode cX5_countByRows 137 = .ok (.imul, 1) := dk_104 (dk_at dksX5_countByRows_5 20 rfl rfl)
theorem dX5_countByRows_138 : decode cX5_countByRows 138 = .ok (.aload_n 0, 1) := dk_42 (dk_at dksX5_countByRows_5 21 rfl rfl)
theorem dX5_countByRows_139 : decode cX5_countByRows 139 = .ok (.getfield 20, 3) := dk_180 0 20 (dk_at dksX5_countByRows_6 0 rfl rfl)
theorem dX5_countByRows_142 : decode cX5_countByRows 142 = .ok (.getfield 53, 3) := dk_180 0 53 (dk_at dksX5_countByRows_6 3 rfl rfl)
theorem dX5_countByRows_145 : decode cX5_countByRows 145 = .ok (.invokestatic 40, 3) := dk_184 0 40 (dk_at dksX5_countByRows_6 6 rfl rfl)
theorem dX5_countByRows_148 : decode cX5_countByRows 148 = .ok (.iinc 5 1, 3) := dk_132 5 1 (dk_at dksX5_countByRows_6 9 rfl rfl)
theorem dX5_countByRows_151 : decode cX5_countByRows 151 = .ok (.goto (-89), 3) := dk_167 255 167 (dk_at dksX5_countByRows_6 12 rfl rfl)
theorem dX5_countByRows_154 : decode cX5_countByRows 154 = .ok (.iload_n 2, 1) := dk_28 (dk_at dksX5_countByRows_6 15 rfl rfl)
theorem dX5_countByRows_155 : decode cX5_countByRows 155 = .ok (.iload 4, 2) := dk_21 4 (dk_at dksX5_countByRows_6 16 rfl rfl)
theorem dX5_countByRows_157 : decode cX5_countByRows 157 = .ok (.invokestatic 216, 3) := dk_184 0 216 (dk_at dksX5_countByRows_6 18 rfl rfl)
theorem dX5_countByRows_160 : decode cX5_countByRows 160 = .ok (.ireturn, 1) := dk_172 (dk_at dksX5_countByRows_6 21 rfl rfl)
abbrev cX5_countWith : ByteArray := prog_4_method_37_code
def yX5_countWith : MethodName := ⟨RX5, "countWith", "(II[I)I"⟩
def dkwX5_countWith_4 : List UInt8 := [167, 0, 11, 42, 27, 4, 96, 28, 182, 0, 221, 172]
abbrev dktX5_countWith_4 : List UInt8 := dkwX5_countWith_4 ++ []
def dkwX5_countWith_3 : List UInt8 := [154, 0, 17, 42, 21, 5, 182, 0, 114, 54, 4, 132, 5, 1, 167, 255, 228, 21, 4, 153, 0, 7, 3]
abbrev dktX5_countWith_3 : List UInt8 := dkwX5_countWith_3 ++ dktX5_countWith_4
def dkwX5_countWith_2 : List UInt8 := [42, 180, 0, 20, 180, 0, 53, 54, 5, 21, 5, 42, 180, 0, 20, 182, 0, 111, 162, 0, 22, 21, 4]
abbrev dktX5_countWith_2 : List UInt8 := dkwX5_countWith_2 ++ dktX5_countWith_3
def dkwX5_countWith_1 : List UInt8 := [180, 0, 53, 27, 104, 21, 4, 96, 4, 45, 21, 4, 46, 120, 79, 132, 4, 1, 167, 255, 218, 3, 54, 4]
abbrev dktX5_countWith_1 : List UInt8 := dkwX5_countWith_1 ++ dktX5_countWith_2
def dkwX5_countWith_0 : List UInt8 := [3, 54, 4, 21, 4, 42, 180, 0, 20, 180, 0, 53, 162, 0, 32, 42, 180, 0, 9, 42, 180, 0, 20]
abbrev dktX5_countWith_0 : List UInt8 := dkwX5_countWith_0 ++ dktX5_countWith_1
theorem dksX5_countWith_0 : cX5_countWith.data.toList.drop 0 = dktX5_countWith_0 := by decide +kernel
theorem dksX5_countWith_1 : cX5_countWith.data.toList.drop 23 = dktX5_countWith_1 := dk_seg dksX5_countWith_0 23 rfl rfl
theorem dksX5_countWith_2 : cX5_countWith.data.toList.drop 47 = dktX5_countWith_2 := dk_seg dksX5_countWith_1 24 rfl rfl
theorem dksX5_countWith_3 : cX5_countWith.data.toList.drop 70 = dktX5_countWith_3 := dk_seg dksX5_countWith_2 23 rfl rfl
theorem dksX5_countWith_4 : cX5_countWith.data.toList.drop 93 = dktX5_countWith_4 := dk_seg dksX5_countWith_3 23 rfl rfl
theorem dX5_countWith_0 : decode cX5_countWith 0 = .ok (.iconst 0, 1) := dk_3 (dk_at dksX5_countWith_0 0 rfl rfl)
theorem dX5_countWith_1 : decode cX5_countWith 1 = .ok (.istore 4, 2) := dk_54 4 (dk_at dksX5_countWith_0 1 rfl rfl)
theorem dX5_countWith_3 : decode cX5_countWith 3 = .ok (.iload 4, 2) := dk_21 4 (dk_at dksX5_countWith_0 3 rfl rfl)
theorem dX5_countWith_5 : decode cX5_countWith 5 = .ok (.aload_n 0, 1) := dk_42 (dk_at dksX5_countWith_0 5 rfl rfl)
theorem dX5_countWith_6 : decode cX5_countWith 6 = .ok (.getfield 20, 3) := dk_180 0 20 (dk_at dksX5_countWith_0 6 rfl rfl)
theorem dX5_countWith_9 : decode cX5_countWith 9 = .ok (.getfield 53, 3) := dk_180 0 53 (dk_at dksX5_countWith_0 9 rfl rfl)
theorem dX5_countWith_12 : decode cX5_countWith 12 = .ok (.if_icmp .ge 32, 3) := dk_162 0 32 (dk_at dksX5_countWith_0 12 rfl rfl)
theorem dX5_countWith_15 : decode cX5_countWith 15 = .ok (.aload_n 0, 1) := dk_42 (dk_at dksX5_countWith_0 15 rfl rfl)
theorem dX5_countWith_16 : decode cX5_countWith 16 = .ok (.getfield 9, 3) := dk_180 0 9 (dk_at dksX5_countWith_0 16 rfl rfl)
theorem dX5_countWith_19 : decode cX5_countWith 19 = .ok (.aload_n 0, 1) := dk_42 (dk_at dksX5_countWith_0 19 rfl rfl)
theorem dX5_countWith_20 : decode cX5_countWith 20 = .ok (.getfield 20, 3) := dk_180 0 20 (dk_at dksX5_countWith_0 20 rfl rfl)
theorem dX5_countWith_23 : decode cX5_countWith 23 = .ok (.getfield 53, 3) := dk_180 0 53 (dk_at dksX5_countWith_1 0 rfl rfl)
theorem dX5_countWith_26 : decode cX5_countWith 26 = .ok (.iload_n 1, 1) := dk_27 (dk_at dksX5_countWith_1 3 rfl rfl)
theorem dX5_countWith_27 : decode cX5_countWith 27 = .ok (.imul, 1) := dk_104 (dk_at dksX5_countWith_1 4 rfl rfl)
theorem dX5_countWith_28 : decode cX5_countWith 28 = .ok (.iload 4, 2) := dk_21 4 (dk_at dksX5_countWith_1 5 rfl rfl)
theorem dX5_countWith_30 : decode cX5_countWith 30 = .ok (.iadd, 1) := dk_96 (dk_at dksX5_countWith_1 7 rfl rfl)
theorem dX5_countWith_31 : decode cX5_countWith 31 = .ok (.iconst 1, 1) := dk_4 (dk_at dksX5_countWith_1 8 rfl rfl)
theorem dX5_countWith_32 : decode cX5_countWith 32 = .ok (.aload_n 3, 1) := dk_45 (dk_at dksX5_countWith_1 9 rfl rfl)
theorem dX5_countWith_33 : decode cX5_countWith 33 = .ok (.iload 4, 2) := dk_21 4 (dk_at dksX5_countWith_1 10 rfl rfl)
theorem dX5_countWith_35 : decode cX5_countWith 35 = .ok (.iaload, 1) := dk_46 (dk_at dksX5_countWith_1 12 rfl rfl)
theorem dX5_countWith_36 : decode cX5_countWith 36 = .ok (.ishl, 1) := dk_120 (dk_at dksX5_countWith_1 13 rfl rfl)
theorem dX5_countWith_37 : decode cX5_countWith 37 = .ok (.iastore, 1) := dk_79 (dk_at dksX5_countWith_1 14 rfl rfl)
theorem dX5_countWith_38 : decode cX5_countWith 38 = .ok (.iinc 4 1, 3) := dk_132 4 1 (dk_at dksX5_countWith_1 15 rfl rfl)
theorem dX5_countWith_41 : decode cX5_countWith 41 = .ok (.goto (-38), 3) := dk_167 255 218 (dk_at dksX5_countWith_1 18 rfl rfl)
theorem dX5_countWith_44 : decode cX5_countWith 44 = .ok (.iconst 0, 1) := dk_3 (dk_at dksX5_countWith_1 21 rfl rfl)
theorem dX5_countWith_45 : decode cX5_countWith 45 = .ok (.istore 4, 2) := dk_54 4 (dk_at dksX5_countWith_1 22 rfl rfl)
theorem dX5_countWith_47 : decode cX5_countWith 47 = .ok (.aload_n 0, 1) := dk_42 (dk_at dksX5_countWith_2 0 rfl rfl)
theorem dX5_countWith_48 : decode cX5_countWith 48 = .ok (.getfield 20, 3) := dk_180 0 20 (dk_at dksX5_countWith_2 1 rfl rfl)
theorem dX5_countWith_51 : decode cX5_countWith 51 = .ok (.getfield 53, 3) := dk_180 0 53 (dk_at dksX5_countWith_2 4 rfl rfl)
theorem dX5_countWith_54 : decode cX5_countWith 54 = .ok (.istore 5, 2) := dk_54 5 (dk_at dksX5_countWith_2 7 rfl rfl)
theorem dX5_countWith_56 : decode cX5_countWith 56 = .ok (.iload 5, 2) := dk_21 5 (dk_at dksX5_countWith_2 9 rfl rfl)
theorem dX5_countWith_58 : decode cX5_countWith 58 = .ok (.aload_n 0, 1) := dk_42 (dk_at dksX5_countWith_2 11 rfl rfl)
theorem dX5_countWith_59 : decode cX5_countWith 59 = .ok (.getfield 20, 3) := dk_180 0 20 (dk_at dksX5_countWith_2 12 rfl rfl)
theorem dX5_countWith_62 : decode cX5_countWith 62 = .ok (.invokevirtual 111, 3) := dk_182 0 111 (dk_at dksX5_countWith_2 15 rfl rfl)
theorem dX5_countWith_65 : decode cX5_countWith 65 = .ok (.if_icmp .ge 22, 3) := dk_162 0 22 (dk_at dksX5_countWith_2 18 rfl rfl)
theorem dX5_countWith_68 : decode cX5_countWith 68 = .ok (.iload 4, 2) := dk_21 4 (dk_at dksX5_countWith_2 21 rfl rfl)
theorem dX5_countWith_70 : decode cX5_countWith 70 = .ok (.ifCond .ne 17, 3) := dk_154 0 17 (dk_at dksX5_countWith_3 0 rfl rfl)
theorem dX5_countWith_73 : decode cX5_countWith 73 = .ok (.aload_n 0, 1) := dk_42 (dk_at dksX5_countWith_3 3 rfl rfl)
theorem dX5_countWith_74 : decode cX5_countWith 74 = .ok (.iload 5, 2) := dk_21 5 (dk_at dksX5_countWith_3 4 rfl rfl)
theorem dX5_countWith_76 : decode cX5_countWith 76 = .ok (.invokevirtual 114, 3) := dk_182 0 114 (dk_at dksX5_countWith_3 6 rfl rfl)
theorem dX5_countWith_79 : decode cX5_countWith 79 = .ok (.istore 4, 2) := dk_54 4 (dk_at dksX5_countWith_3 9 rfl rfl)
theorem dX5_countWith_81 : decode cX5_countWith 81 = .ok (.iinc 5 1, 3) := dk_132 5 1 (dk_at dksX5_countWith_3 11 rfl rfl)
theorem dX5_countWith_84 : decode cX5_countWith 84 = .ok (.goto (-28), 3) := dk_167 255 228 (dk_at dksX5_countWith_3 14 rfl rfl)
theorem dX5_countWith_87 : decode cX5_countWith 87 = .ok (.iload 4, 2) := dk_21 4 (dk_at dksX5_countWith_3 17 rfl rfl)
theorem dX5_countWith_89 : decode cX5_countWith 89 = .ok (.ifCond .eq 7, 3) := dk_153 0 7 (dk_at dksX5_countWith_3 19 rfl rfl)
theorem dX5_countWith_92 : decode cX5_countWith 92 = .ok (.iconst 0, 1) := dk_3 (dk_at dksX5_countWith_3 22 rfl rfl)
theorem dX5_countWith_93 : decode cX5_countWith 93 = .ok (.goto 11, 3) := dk_167 0 11 (dk_at dksX5_countWith_4 0 rfl rfl)
theorem dX5_countWith_96 : decode cX5_countWith 96 = .ok (.aload_n 0, 1) := dk_42 (dk_at dksX5_countWith_4 3 rfl rfl)
theorem dX5_countWith_97 : decode cX5_countWith 97 = .ok (.iload_n 1, 1) := dk_27 (dk_at dksX5_countWith_4 4 rfl rfl)
theorem dX5_countWith_98 : decode cX5_countWith 98 = .ok (.iconst 1, 1) := dk_4 (dk_at dksX5_countWith_4 5 rfl rfl)
theorem dX5_countWith_99 : decode cX5_countWith 99 = .ok (.iadd, 1) := dk_96 (dk_at dksX5_countWith_4 6 rfl rfl)
theorem dX5_countWith_100 : decode cX5_countWith 100 = .ok (.iload_n 2, 1) := dk_28 (dk_at dksX5_countWith_4 7 rfl rfl)
theorem dX5_countWith_101 : decode cX5_countWith 101 = .ok (.invokevirtual 221, 3) := dk_182 0 221 (dk_at dksX5_countWith_4 8 rfl rfl)
theorem dX5_countWith_104 : decode cX5_countWith 104 = .ok (.ireturn, 1) := dk_172 (dk_at dksX5_countWith_4 11 rfl rfl)
abbrev cX5_crossedOut : ByteArray := prog_4_method_32_code
def yX5_crossedOut : MethodName := ⟨RX5, "crossedOut", "()I"⟩
def dkwX5_crossedOut_1 : List UInt8 := [96, 42, 180, 0, 9, 28, 46, 184, 0, 99, 100, 96, 60, 132, 2, 1, 167, 255, 220, 27, 172]
abbrev dktX5_crossedOut_1 : List UInt8 := dkwX5_crossedOut_1 ++ []
def dkwX5_crossedOut_0 : List UInt8 := [3, 60, 3, 61, 28, 42, 180, 0, 20, 182, 0, 34, 162, 0, 31, 27, 42, 180, 0, 20, 180, 0, 28, 4]
abbrev dktX5_crossedOut_0 : List UInt8 := dkwX5_crossedOut_0 ++ dktX5_crossedOut_1
theorem dksX5_crossedOut_0 : cX5_crossedOut.data.toList.drop 0 = dktX5_crossedOut_0 := by decide +kernel
theorem dksX5_crossedOut_1 : cX5_crossedOut.data.toList.drop 24 = dktX5_crossedOut_1 := dk_seg dksX5_crossedOut_0 24 rfl rfl
theorem dX5_crossedOut_0 : decode cX5_crossedOut 0 = .ok (.iconst 0, 1) := dk_3 (dk_at dksX5_crossedOut_0 0 rfl rfl)
theorem dX5_crossedOut_1 : decode cX5_crossedOut 1 = .ok (.istore_n 1, 1) := dk_60 (dk_at dksX5_crossedOut_0 1 rfl rfl)
theorem dX5_crossedOut_2 : decode cX5_crossedOut 2 = .ok (.iconst 0, 1) := dk_3 (dk_at dksX5_crossedOut_0 2 rfl rfl)
theorem dX5_crossedOut_3 : decode cX5_crossedOut 3 = .ok (.istore_n 2, 1) := dk_61 (dk_at dksX5_crossedOut_0 3 rfl rfl)
theorem dX5_crossedOut_4 : decode cX5_crossedOut 4 = .ok (.iload_n 2, 1) := dk_28 (dk_at dksX5_crossedOut_0 4 rfl rfl)
theorem dX5_crossedOut_5 : decode cX5_crossedOut 5 = .ok (.aload_n 0, 1) := dk_42 (dk_at dksX5_crossedOut_0 5 rfl rfl)
theorem dX5_crossedOut_6 : decode cX5_crossedOut 6 = .ok (.getfield 20, 3) := dk_180 0 20 (dk_at dksX5_crossedOut_0 6 rfl rfl)
theorem dX5_crossedOut_9 : decode cX5_crossedOut 9 = .ok (.invokevirtual 34, 3) := dk_182 0 34 (dk_at dksX5_crossedOut_0 9 rfl rfl)
theorem dX5_crossedOut_12 : decode cX5_crossedOut 12 = .ok (.if_icmp .ge 31, 3) := dk_162 0 31 (dk_at dksX5_crossedOut_0 12 rfl rfl)
theorem dX5_crossedOut_15 : decode cX5_crossedOut 15 = .ok (.iload_n 1, 1) := dk_27 (dk_at dksX5_crossedOut_0 15 rfl rfl)
theorem dX5_crossedOut_16 : decode cX5_crossedOut 16 = .ok (.aload_n 0, 1) := dk_42 (dk_at dksX5_crossedOut_0 16 rfl rfl)
theorem dX5_crossedOut_17 : decode cX5_crossedOut 17 = .ok (.getfield 20, 3) := dk_180 0 20 (dk_at dksX5_crossedOut_0 17 rfl rfl)
theorem dX5_crossedOut_20 : decode cX5_crossedOut 20 = .ok (.getfield 28, 3) := dk_180 0 28 (dk_at dksX5_crossedOut_0 20 rfl rfl)
theorem dX5_crossedOut_23 : decode cX5_crossedOut 23 = .ok (.iconst 1, 1) := dk_4 (dk_at dksX5_crossedOut_0 23 rfl rfl)
theorem dX5_crossedOut_24 : decode cX5_crossedOut 24 = .ok (.iadd, 1) := dk_96 (dk_at dksX5_crossedOut_1 0 rfl rfl)
theorem dX5_crossedOut_25 : decode cX5_crossedOut 25 = .ok (.aload_n 0, 1) := dk_42 (dk_at dksX5_crossedOut_1 1 rfl rfl)
theorem dX5_crossedOut_26 : decode cX5_crossedOut 26 = .ok (.getfield 9, 3) := dk_180 0 9 (dk_at dksX5_crossedOut_1 2 rfl rfl)
theorem dX5_crossedOut_29 : decode cX5_crossedOut 29 = .ok (.iload_n 2, 1) := dk_28 (dk_at dksX5_crossedOut_1 5 rfl rfl)
theorem dX5_crossedOut_30 : decode cX5_crossedOut 30 = .ok (.iaload, 1) := dk_46 (dk_at dksX5_crossedOut_1 6 rfl rfl)
theorem dX5_crossedOut_31 : decode cX5_crossedOut 31 = .ok (.invokestatic 99, 3) := dk_184 0 99 (dk_at dksX5_crossedOut_1 7 rfl rfl)
theorem dX5_crossedOut_34 : decode cX5_crossedOut 34 = .ok (.isub, 1) := dk_100 (dk_at dksX5_crossedOut_1 10 rfl rfl)
theorem dX5_crossedOut_35 : decode cX5_crossedOut 35 = .ok (.iadd, 1) := dk_96 (dk_at dksX5_crossedOut_1 11 rfl rfl)
theorem dX5_crossedOut_36 : decode cX5_crossedOut 36 = .ok (.istore_n 1, 1) := dk_60 (dk_at dksX5_crossedOut_1 12 rfl rfl)
theorem dX5_crossedOut_37 : decode cX5_crossedOut 37 = .ok (.iinc 2 1, 3) := dk_132 2 1 (dk_at dksX5_crossedOut_1 13 rfl rfl)
theorem dX5_crossedOut_40 : decode cX5_crossedOut 40 = .ok (.goto (-36), 3) := dk_167 255 220 (dk_at dksX5_crossedOut_1 16 rfl rfl)
theorem dX5_crossedOut_43 : decode cX5_crossedOut 43 = .ok (.iload_n 1, 1) := dk_27 (dk_at dksX5_crossedOut_1 19 rfl rfl)
theorem dX5_crossedOut_44 : decode cX5_crossedOut 44 = .ok (.ireturn, 1) := dk_172 (dk_at dksX5_crossedOut_1 20 rfl rfl)
abbrev cX5_arrangements : ByteArray := prog_4_method_7_code
def yX5_arrangements : MethodName := ⟨RX5, "arrangements", "(I)I"⟩
def dkwX5_arrangements_2 : List UInt8 := [167, 0, 4, 3, 96, 61, 167, 255, 218, 28, 172]
abbrev dktX5_arrangements_2 : List UInt8 := dkwX5_arrangements_2 ++ []
def dkwX5_arrangements_1 : List UInt8 := [185, 0, 80, 1, 0, 192, 0, 84, 58, 4, 28, 42, 27, 25, 4, 182, 0, 85, 153, 0, 7, 4]
abbrev dktX5_arrangements_1 : List UInt8 := dkwX5_arrangements_1 ++ dktX5_arrangements_2
def dkwX5_arrangements_0 : List UInt8 := [3, 61, 42, 180, 0, 20, 180, 0, 64, 182, 0, 68, 78, 45, 185, 0, 74, 1, 0, 153, 0, 35, 45]
abbrev dktX5_arrangements_0 : List UInt8 := dkwX5_arrangements_0 ++ dktX5_arrangements_1
theorem dksX5_arrangements_0 : cX5_arrangements.data.toList.drop 0 = dktX5_arrangements_0 := by decide +kernel
theorem dksX5_arrangements_1 : cX5_arrangements.data.toList.drop 23 = dktX5_arrangements_1 := dk_seg dksX5_arrangements_0 23 rfl rfl
theorem dksX5_arrangements_2 : cX5_arrangements.data.toList.drop 45 = dktX5_arrangements_2 := dk_seg dksX5_arrangements_1 22 rfl rfl
theorem dX5_arrangements_0 : decode cX5_arrangements 0 = .ok (.iconst 0, 1) := dk_3 (dk_at dksX5_arrangements_0 0 rfl rfl)
theorem dX5_arrangements_1 : decode cX5_arrangements 1 = .ok (.istore_n 2, 1) := dk_61 (dk_at dksX5_arrangements_0 1 rfl rfl)
theorem dX5_arrangements_2 : decode cX5_arrangements 2 = .ok (.aload_n 0, 1) := dk_42 (dk_at dksX5_arrangements_0 2 rfl rfl)
theorem dX5_arrangements_3 : decode cX5_arrangements 3 = .ok (.getfield 20, 3) := dk_180 0 20 (dk_at dksX5_arrangements_0 3 rfl rfl)
theorem dX5_arrangements_6 : decode cX5_arrangements 6 = .ok (.getfield 64, 3) := dk_180 0 64 (dk_at dksX5_arrangements_0 6 rfl rfl)
theorem dX5_arrangements_9 : decode cX5_arrangements 9 = .ok (.invokevirtual 68, 3) := dk_182 0 68 (dk_at dksX5_arrangements_0 9 rfl rfl)
theorem dX5_arrangements_12 : decode cX5_arrangements 12 = .ok (.astore_n 3, 1) := dk_78 (dk_at dksX5_arrangements_0 12 rfl rfl)
theorem dX5_arrangements_13 : decode cX5_arrangements 13 = .ok (.aload_n 3, 1) := dk_45 (dk_at dksX5_arrangements_0 13 rfl rfl)
theorem dX5_arrangements_14 : decode cX5_arrangements 14 = .ok (.invokeinterface 74 1, 5) := by decide +kernel
theorem dX5_arrangements_19 : decode cX5_arrangements 19 = .ok (.ifCond .eq 35, 3) := dk_153 0 35 (dk_at dksX5_arrangements_0 19 rfl rfl)
theorem dX5_arrangements_22 : decode cX5_arrangements 22 = .ok (.aload_n 3, 1) := dk_45 (dk_at dksX5_arrangements_0 22 rfl rfl)
theorem dX5_arrangements_23 : decode cX5_arrangements 23 = .ok (.invokeinterface 80 1, 5) := by decide +kernel
theorem dX5_arrangements_28 : decode cX5_arrangements 28 = .ok (.checkcast 84, 3) := dk_192 0 84 (dk_at dksX5_arrangements_1 5 rfl rfl)
theorem dX5_arrangements_31 : decode cX5_arrangements 31 = .ok (.astore 4, 2) := dk_58 4 (dk_at dksX5_arrangements_1 8 rfl rfl)
theorem dX5_arrangements_33 : decode cX5_arrangements 33 = .ok (.iload_n 2, 1) := dk_28 (dk_at dksX5_arrangements_1 10 rfl rfl)
theorem dX5_arrangements_34 : decode cX5_arrangements 34 = .ok (.aload_n 0, 1) := dk_42 (dk_at dksX5_arrangements_1 11 rfl rfl)
theorem dX5_arrangements_35 : decode cX5_arrangements 35 = .ok (.iload_n 1, 1) := dk_27 (dk_at dksX5_arrangements_1 12 rfl rfl)
theorem dX5_arrangements_36 : decode cX5_arrangements 36 = .ok (.aload 4, 2) := dk_25 4 (dk_at dksX5_arrangements_1 13 rfl rfl)
theorem dX5_arrangements_38 : decode cX5_arrangements 38 = .ok (.invokevirtual 85, 3) := dk_182 0 85 (dk_at dksX5_arrangements_1 15 rfl rfl)
theorem dX5_arrangements_41 : decode cX5_arrangements 41 = .ok (.ifCond .eq 7, 3) := dk_153 0 7 (dk_at dksX5_arrangements_1 18 rfl rfl)
theorem dX5_arrangements_44 : decode cX5_arrangements 44 = .ok (.iconst 1, 1) := dk_4 (dk_at dksX5_arrangements_1 21 rfl rfl)
theorem dX5_arrangements_45 : decode cX5_arrangements 45 = .ok (.goto 4, 3) := dk_167 0 4 (dk_at dksX5_arrangements_2 0 rfl rfl)
theorem dX5_arrangements_48 : decode cX5_arrangements 48 = .ok (.iconst 0, 1) := dk_3 (dk_at dksX5_arrangements_2 3 rfl rfl)
theorem dX5_arrangements_49 : decode cX5_arrangements 49 = .ok (.iadd, 1) := dk_96 (dk_at dksX5_arrangements_2 4 rfl rfl)
theorem dX5_arrangements_50 : decode cX5_arrangements 50 = .ok (.istore_n 2, 1) := dk_61 (dk_at dksX5_arrangements_2 5 rfl rfl)
theorem dX5_arrangements_51 : decode cX5_arrangements 51 = .ok (.goto (-38), 3) := dk_167 255 218 (dk_at dksX5_arrangements_2 6 rfl rfl)
theorem dX5_arrangements_54 : decode cX5_arrangements 54 = .ok (.iload_n 2, 1) := dk_28 (dk_at dksX5_arrangements_2 9 rfl rfl)
theorem dX5_arrangements_55 : decode cX5_arrangements 55 = .ok (.ireturn, 1) := dk_172 (dk_at dksX5_arrangements_2 10 rfl rfl)
abbrev cX5_countFrom : ByteArray := prog_4_method_11_code
def yX5_countFrom : MethodName := ⟨RX5, "countFrom", "(III[I)I"⟩
def dkwX5_countFrom_7 : List UInt8 := [21, 8, 4, 100, 126, 54, 8, 167, 255, 161, 21, 5, 172]
abbrev dktX5_countFrom_7 : List UInt8 := dkwX5_countFrom_7 ++ []
def dkwX5_countFrom_6 : List UInt8 := [153, 0, 7, 29, 167, 0, 9, 29, 4, 21, 9, 120, 128, 25, 4, 182, 0, 107, 96, 54, 5, 21, 8]
abbrev dktX5_countFrom_6 : List UInt8 := dkwX5_countFrom_6 ++ dktX5_countFrom_7
def dkwX5_countFrom_5 : List UInt8 := [180, 0, 20, 180, 0, 53, 28, 100, 21, 7, 164, 0, 33, 21, 5, 42, 27, 28, 4, 96, 21, 10]
abbrev dktX5_countFrom_5 : List UInt8 := dkwX5_countFrom_5 ++ dktX5_countFrom_6
def dkwX5_countFrom_4 : List UInt8 := [160, 0, 7, 4, 167, 0, 4, 3, 54, 10, 25, 4, 28, 21, 9, 79, 21, 10, 153, 0, 17, 42]
abbrev dktX5_countFrom_4 : List UInt8 := dkwX5_countFrom_4 ++ dktX5_countFrom_5
def dkwX5_countFrom_3 : List UInt8 := [54, 8, 21, 8, 153, 0, 96, 21, 8, 184, 0, 104, 54, 9, 21, 9, 42, 180, 0, 20, 180, 0, 28]
abbrev dktX5_countFrom_3 : List UInt8 := dkwX5_countFrom_3 ++ dktX5_countFrom_4
def dkwX5_countFrom_2 : List UInt8 := [46, 29, 2, 130, 126, 54, 6, 42, 180, 0, 20, 180, 0, 28, 29, 184, 0, 99, 100, 54, 7, 21, 6]
abbrev dktX5_countFrom_2 : List UInt8 := dkwX5_countFrom_2 ++ dktX5_countFrom_3
def dkwX5_countFrom_1 : List UInt8 := [4, 167, 0, 4, 3, 172, 3, 54, 5, 42, 180, 0, 9, 42, 180, 0, 20, 180, 0, 50, 27, 50, 28, 46]
abbrev dktX5_countFrom_1 : List UInt8 := dkwX5_countFrom_1 ++ dktX5_countFrom_2
def dkwX5_countFrom_0 : List UInt8 := [28, 42, 180, 0, 20, 180, 0, 53, 160, 0, 22, 42, 180, 0, 20, 27, 25, 4, 182, 0, 60, 153, 0, 7]
abbrev dktX5_countFrom_0 : List UInt8 := dkwX5_countFrom_0 ++ dktX5_countFrom_1
theorem dksX5_countFrom_0 : cX5_countFrom.data.toList.drop 0 = dktX5_countFrom_0 := by decide +kernel
theorem dksX5_countFrom_1 : cX5_countFrom.data.toList.drop 24 = dktX5_countFrom_1 := dk_seg dksX5_countFrom_0 24 rfl rfl
theorem dksX5_countFrom_2 : cX5_countFrom.data.toList.drop 48 = dktX5_countFrom_2 := dk_seg dksX5_countFrom_1 24 rfl rfl
theorem dksX5_countFrom_3 : cX5_countFrom.data.toList.drop 71 = dktX5_countFrom_3 := dk_seg dksX5_countFrom_2 23 rfl rfl
theorem dksX5_countFrom_4 : cX5_countFrom.data.toList.drop 94 = dktX5_countFrom_4 := dk_seg dksX5_countFrom_3 23 rfl rfl
theorem dksX5_countFrom_5 : cX5_countFrom.data.toList.drop 116 = dktX5_countFrom_5 := dk_seg dksX5_countFrom_4 22 rfl rfl
theorem dksX5_countFrom_6 : cX5_countFrom.data.toList.drop 138 = dktX5_countFrom_6 := dk_seg dksX5_countFrom_5 22 rfl rfl
theorem dksX5_countFrom_7 : cX5_countFrom.data.toList.drop 161 = dktX5_countFrom_7 := dk_seg dksX5_countFrom_6 23 rfl rfl
theorem dX5_countFrom_0 : decode cX5_countFrom 0 = .ok (.iload_n 2, 1) := dk_28 (dk_at dksX5_countFrom_0 0 rfl rfl)
theorem dX5_countFrom_1 : decode cX5_countFrom 1 = .ok (.aload_n 0, 1) := dk_42 (dk_at dksX5_countFrom_0 1 rfl rfl)
theorem dX5_countFrom_2 : decode cX5_countFrom 2 = .ok (.getfield 20, 3) := dk_180 0 20 (dk_at dksX5_countFrom_0 2 rfl rfl)
theorem dX5_countFrom_5 : decode cX5_countFrom 5 = .ok (.getfield 53, 3) := dk_180 0 53 (dk_at dksX5_countFrom_0 5 rfl rfl)
theorem dX5_countFrom_8 : decode cX5_countFrom 8 = .ok (.if_icmp .ne 22, 3) := dk_160 0 22 (dk_at dksX5_countFrom_0 8 rfl rfl)
theorem dX5_countFrom_11 : decode cX5_countFrom 11 = .ok (.aload_n 0, 1) := dk_42 (dk_at dksX5_countFrom_0 11 rfl rfl)
theorem dX5_countFrom_12 : decode cX5_countFrom 12 = .ok (.getfield 20, 3) := dk_180 0 20 (dk_at dksX5_countFrom_0 12 rfl rfl)
theorem dX5_countFrom_15 : decode cX5_countFrom 15 = .ok (.iload_n 1, 1) := dk_27 (dk_at dksX5_countFrom_0 15 rfl rfl)
theorem dX5_countFrom_16 : decode cX5_countFrom 16 = .ok (.aload 4, 2) := dk_25 4 (dk_at dksX5_countFrom_0 16 rfl rfl)
theorem dX5_countFrom_18 : decode cX5_countFrom 18 = .ok (.invokevirtual 60, 3) := dk_182 0 60 (dk_at dksX5_countFrom_0 18 rfl rfl)
theorem dX5_countFrom_21 : decode cX5_countFrom 21 = .ok (.ifCond .eq 7, 3) := dk_153 0 7 (dk_at dksX5_countFrom_0 21 rfl rfl)
theorem dX5_countFrom_24 : decode cX5_countFrom 24 = .ok (.iconst 1, 1) := dk_4 (dk_at dksX5_countFrom_1 0 rfl rfl)
theorem dX5_countFrom_25 : decode cX5_countFrom 25 = .ok (.goto 4, 3) := dk_167 0 4 (dk_at dksX5_countFrom_1 1 rfl rfl)
theorem dX5_countFrom_28 : decode cX5_countFrom 28 = .ok (.iconst 0, 1) := dk_3 (dk_at dksX5_countFrom_1 4 rfl rfl)
theorem dX5_countFrom_29 : decode cX5_countFrom 29 = .ok (.ireturn, 1) := dk_172 (dk_at dksX5_countFrom_1 5 rfl rfl)
theorem dX5_countFrom_30 : decode cX5_countFrom 30 = .ok (.iconst 0, 1) := dk_3 (dk_at dksX5_countFrom_1 6 rfl rfl)
theorem dX5_countFrom_31 : decode cX5_countFrom 31 = .ok (.istore 5, 2) := dk_54 5 (dk_at dksX5_countFrom_1 7 rfl rfl)
theorem dX5_countFrom_33 : decode cX5_countFrom 33 = .ok (.aload_n 0, 1) := dk_42 (dk_at dksX5_countFrom_1 9 rfl rfl)
theorem dX5_countFrom_34 : decode cX5_countFrom 34 = .ok (.getfield 9, 3) := dk_180 0 9 (dk_at dksX5_countFrom_1 10 rfl rfl)
theorem dX5_countFrom_37 : decode cX5_countFrom 37 = .ok (.aload_n 0, 1) := dk_42 (dk_at dksX5_countFrom_1 13 rfl rfl)
theorem dX5_countFrom_38 : decode cX5_countFrom 38 = .ok (.getfield 20, 3) := dk_180 0 20 (dk_at dksX5_countFrom_1 14 rfl rfl)
theorem dX5_countFrom_41 : decode cX5_countFrom 41 = .ok (.getfield 50, 3) := dk_180 0 50 (dk_at dksX5_countFrom_1 17 rfl rfl)
theorem dX5_countFrom_44 : decode cX5_countFrom 44 = .ok (.iload_n 1, 1) := dk_27 (dk_at dksX5_countFrom_1 20 rfl rfl)
theorem dX5_countFrom_45 : decode cX5_countFrom 45 = .ok (.aaload, 1) := dk_50 (dk_at dksX5_countFrom_1 21 rfl rfl)
theorem dX5_countFrom_46 : decode cX5_countFrom 46 = .ok (.iload_n 2, 1) := dk_28 (dk_at dksX5_countFrom_1 22 rfl rfl)
theorem dX5_countFrom_47 : decode cX5_countFrom 47 = .ok (.iaload, 1) := dk_46 (dk_at dksX5_countFrom_1 23 rfl rfl)
theorem dX5_countFrom_48 : decode cX5_countFrom 48 = .ok (.iaload, 1) := dk_46 (dk_at dksX5_countFrom_2 0 rfl rfl)
theorem dX5_countFrom_49 : decode cX5_countFrom 49 = .ok (.iload_n 3, 1) := dk_29 (dk_at dksX5_countFrom_2 1 rfl rfl)
theorem dX5_countFrom_50 : decode cX5_countFrom 50 = .ok (.iconst (-1), 1) := dk_2 (dk_at dksX5_countFrom_2 2 rfl rfl)
theorem dX5_countFrom_51 : decode cX5_countFrom 51 = .ok (.ixor, 1) := dk_130 (dk_at dksX5_countFrom_2 3 rfl rfl)
theorem dX5_countFrom_52 : decode cX5_countFrom 52 = .ok (.iand, 1) := dk_126 (dk_at dksX5_countFrom_2 4 rfl rfl)
theorem dX5_countFrom_53 : decode cX5_countFrom 53 = .ok (.istore 6, 2) := dk_54 6 (dk_at dksX5_countFrom_2 5 rfl rfl)
theorem dX5_countFrom_55 : decode cX5_countFrom 55 = .ok (.aload_n 0, 1) := dk_42 (dk_at dksX5_countFrom_2 7 rfl rfl)
theorem dX5_countFrom_56 : decode cX5_countFrom 56 = .ok (.getfield 20, 3) := dk_180 0 20 (dk_at dksX5_countFrom_2 8 rfl rfl)
theorem dX5_countFrom_59 : decode cX5_countFrom 59 = .ok (.getfield 28, 3) := dk_180 0 28 (dk_at dksX5_countFrom_2 11 rfl rfl)
theorem dX5_countFrom_62 : decode cX5_countFrom 62 = .ok (.iload_n 3, 1) := dk_29 (dk_at dksX5_countFrom_2 14 rfl rfl)
theorem dX5_countFrom_63 : decode cX5_countFrom 63 = .ok (.invokestatic 99, 3) := dk_184 0 99 (dk_at dksX5_countFrom_2 15 rfl rfl)
theorem dX5_countFrom_66 : decode cX5_countFrom 66 = .ok (.isub, 1) := dk_100 (dk_at dksX5_countFrom_2 18 rfl rfl)
theorem dX5_countFrom_67 : decode cX5_countFrom 67 = .ok (.istore 7, 2) := dk_54 7 (dk_at dksX5_countFrom_2 19 rfl rfl)
theorem dX5_countFrom_69 : decode cX5_countFrom 69 = .ok (.iload 6, 2) := dk_21 6 (dk_at dksX5_countFrom_2 21 rfl rfl)
theorem dX5_countFrom_71 : decode cX5_countFrom 71 = .ok (.istore 8, 2) := dk_54 8 (dk_at dksX5_countFrom_3 0 rfl rfl)
theorem dX5_countFrom_73 : decode cX5_countFrom 73 = .ok (.iload 8, 2) := dk_21 8 (dk_at dksX5_countFrom_3 2 rfl rfl)
theorem dX5_countFrom_75 : decode cX5_countFrom 75 = .ok (.ifCond .eq 96, 3) := dk_153 0 96 (dk_at dksX5_countFrom_3 4 rfl rfl)
theorem dX5_countFrom_78 : decode cX5_countFrom 78 = .ok (.iload 8, 2) := dk_21 8 (dk_at dksX5_countFrom_3 7 rfl rfl)
theorem dX5_countFrom_80 : decode cX5_countFrom 80 = .ok (.invokestatic 104, 3) := dk_184 0 104 (dk_at dksX5_countFrom_3 9 rfl rfl)
theorem dX5_countFrom_83 : decode cX5_countFrom 83 = .ok (.istore 9, 2) := dk_54 9 (dk_at dksX5_countFrom_3 12 rfl rfl)
theorem dX5_countFrom_85 : decode cX5_countFrom 85 = .ok (.iload 9, 2) := dk_21 9 (dk_at dksX5_countFrom_3 14 rfl rfl)
theorem dX5_countFrom_87 : decode cX5_countFrom 87 = .ok (.aload_n 0, 1) := dk_42 (dk_at dksX5_countFrom_3 16 rfl rfl)
theorem dX5_countFrom_88 : decode cX5_countFrom 88 = .ok (.getfield 20, 3) := dk_180 0 20 (dk_at dksX5_countFrom_3 17 rfl rfl)
theorem dX5_countFrom_91 : decode cX5_countFrom 91 = .ok (.getfield 28, 3) := dk_180 0 28 (dk_at dksX5_countFrom_3 20 rfl rfl)
theorem dX5_countFrom_94 : decode cX5_countFrom 94 = .ok (.if_icmp .ne 7, 3) := dk_160 0 7 (dk_at dksX5_countFrom_4 0 rfl rfl)
theorem dX5_countFrom_97 : decode cX5_countFrom 97 = .ok (.iconst 1, 1) := dk_4 (dk_at dksX5_countFrom_4 3 rfl rfl)
theorem dX5_countFrom_98 : decode cX5_countFrom 98 = .ok (.goto 4, 3) := dk_167 0 4 (dk_at dksX5_countFrom_4 4 rfl rfl)
theorem dX5_countFrom_101 : decode cX5_countFrom 101 = .ok (.iconst 0, 1) := dk_3 (dk_at dksX5_countFrom_4 7 rfl rfl)
theorem dX5_countFrom_102 : decode cX5_countFrom 102 = .ok (.istore 10, 2) := dk_54 10 (dk_at dksX5_countFrom_4 8 rfl rfl)
theorem dX5_countFrom_104 : decode cX5_countFrom 104 = .ok (.aload 4, 2) := dk_25 4 (dk_at dksX5_countFrom_4 10 rfl rfl)
theorem dX5_countFrom_106 : decode cX5_countFrom 106 = .ok (.iload_n 2, 1) := dk_28 (dk_at dksX5_countFrom_4 12 rfl rfl)
theorem dX5_countFrom_107 : decode cX5_countFrom 107 = .ok (.iload 9, 2) := dk_21 9 (dk_at dksX5_countFrom_4 13 rfl rfl)
theorem dX5_countFrom_109 : decode cX5_countFrom 109 = .ok (.iastore, 1) := dk_79 (dk_at dksX5_countFrom_4 15 rfl rfl)
theorem dX5_countFrom_110 : decode cX5_countFrom 110 = .ok (.iload 10, 2) := dk_21 10 (dk_at dksX5_countFrom_4 16 rfl rfl)
theorem dX5_countFrom_112 : decode cX5_countFrom 112 = .ok (.ifCond .eq 17, 3) := dk_153 0 17 (dk_at dksX5_countFrom_4 18 rfl rfl)
theorem dX5_countFrom_115 : decode cX5_countFrom 115 = .ok (.aload_n 0, 1) := dk_42 (dk_at dksX5_countFrom_4 21 rfl rfl)
theorem dX5_countFrom_116 : decode cX5_countFrom 116 = .ok (.getfield 20, 3) := dk_180 0 20 (dk_at dksX5_countFrom_5 0 rfl rfl)
theorem dX5_countFrom_119 : decode cX5_countFrom 119 = .ok (.getfield 53, 3) := dk_180 0 53 (dk_at dksX5_countFrom_5 3 rfl rfl)
theorem dX5_countFrom_122 : decode cX5_countFrom 122 = .ok (.iload_n 2, 1) := dk_28 (dk_at dksX5_countFrom_5 6 rfl rfl)
theorem dX5_countFrom_123 : decode cX5_countFrom 123 = .ok (.isub, 1) := dk_100 (dk_at dksX5_countFrom_5 7 rfl rfl)
theorem dX5_countFrom_124 : decode cX5_countFrom 124 = .ok (.iload 7, 2) := dk_21 7 (dk_at dksX5_countFrom_5 8 rfl rfl)
theorem dX5_countFrom_126 : decode cX5_countFrom 126 = .ok (.if_icmp .le 33, 3) := dk_164 0 33 (dk_at dksX5_countFrom_5 10 rfl rfl)
theorem dX5_countFrom_129 : decode cX5_countFrom 129 = .ok (.iload 5, 2) := dk_21 5 (dk_at dksX5_countFrom_5 13 rfl rfl)
theorem dX5_countFrom_131 : decode cX5_countFrom 131 = .ok (.aload_n 0, 1) := dk_42 (dk_at dksX5_countFrom_5 15 rfl rfl)
theorem dX5_countFrom_132 : decode cX5_countFrom 132 = .ok (.iload_n 1, 1) := dk_27 (dk_at dksX5_countFrom_5 16 rfl rfl)
theorem dX5_countFrom_133 : decode cX5_countFrom 133 = .ok (.iload_n 2, 1) := dk_28 (dk_at dksX5_countFrom_5 17 rfl rfl)
theorem dX5_countFrom_134 : decode cX5_countFrom 134 = .ok (.iconst 1, 1) := dk_4 (dk_at dksX5_countFrom_5 18 rfl rfl)
theorem dX5_countFrom_135 : decode cX5_countFrom 135 = .ok (.iadd, 1) := dk_96 (dk_at dksX5_countFrom_5 19 rfl rfl)
theorem dX5_countFrom_136 : decode cX5_countFrom 136 = .ok (.iload 10, 2) := dk_21 10 (dk_at dksX5_countFrom_5 20 rfl rfl)
theorem dX5_countFrom_138 : decode cX5_countFrom 138 = .ok (.ifCond .eq 7, 3) := dk_153 0 7 (dk_at dksX5_countFrom_6 0 rfl rfl)
theorem dX5_countFrom_141 : decode cX5_countFrom 141 = .ok (.iload_n 3, 1) := dk_29 (dk_at dksX5_countFrom_6 3 rfl rfl)
theorem dX5_countFrom_142 : decode cX5_countFrom 142 = .ok (.goto 9, 3) := dk_167 0 9 (dk_at dksX5_countFrom_6 4 rfl rfl)
theorem dX5_countFrom_145 : decode cX5_countFrom 145 = .ok (.iload_n 3, 1) := dk_29 (dk_at dksX5_countFrom_6 7 rfl rfl)
theorem dX5_countFrom_146 : decode cX5_countFrom 146 = .ok (.iconst 1, 1) := dk_4 (dk_at dksX5_countFrom_6 8 rfl rfl)
theorem dX5_countFrom_147 : decode cX5_countFrom 147 = .ok (.iload 9, 2) := dk_21 9 (dk_at dksX5_countFrom_6 9 rfl rfl)
theorem dX5_countFrom_149 : decode cX5_countFrom 149 = .ok (.ishl, 1) := dk_120 (dk_at dksX5_countFrom_6 11 rfl rfl)
theorem dX5_countFrom_150 : decode cX5_countFrom 150 = .ok (.ior, 1) := dk_128 (dk_at dksX5_countFrom_6 12 rfl rfl)
theorem dX5_countFrom_151 : decode cX5_countFrom 151 = .ok (.aload 4, 2) := dk_25 4 (dk_at dksX5_countFrom_6 13 rfl rfl)
theorem dX5_countFrom_153 : decode cX5_countFrom 153 = .ok (.invokevirtual 107, 3) := dk_182 0 107 (dk_at dksX5_countFrom_6 15 rfl rfl)
theorem dX5_countFrom_156 : decode cX5_countFrom 156 = .ok (.iadd, 1) := dk_96 (dk_at dksX5_countFrom_6 18 rfl rfl)
theorem dX5_countFrom_157 : decode cX5_countFrom 157 = .ok (.istore 5, 2) := dk_54 5 (dk_at dksX5_countFrom_6 19 rfl rfl)
theorem dX5_countFrom_159 : decode cX5_countFrom 159 = .ok (.iload 8, 2) := dk_21 8 (dk_at dksX5_countFrom_6 21 rfl rfl)
theorem dX5_countFrom_161 : decode cX5_countFrom 161 = .ok (.iload 8, 2) := dk_21 8 (dk_at dksX5_countFrom_7 0 rfl rfl)
theorem dX5_countFrom_163 : decode cX5_countFrom 163 = .ok (.iconst 1, 1) := dk_4 (dk_at dksX5_countFrom_7 2 rfl rfl)
theorem dX5_countFrom_164 : decode cX5_countFrom 164 = .ok (.isub, 1) := dk_100 (dk_at dksX5_countFrom_7 3 rfl rfl)
theorem dX5_countFrom_165 : decode cX5_countFrom 165 = .ok (.iand, 1) := dk_126 (dk_at dksX5_countFrom_7 4 rfl rfl)
theorem dX5_countFrom_166 : decode cX5_countFrom 166 = .ok (.istore 8, 2) := dk_54 8 (dk_at dksX5_countFrom_7 5 rfl rfl)
theorem dX5_countFrom_168 : decode cX5_countFrom 168 = .ok (.goto (-95), 3) := dk_167 255 161 (dk_at dksX5_countFrom_7 7 rfl rfl)
theorem dX5_countFrom_171 : decode cX5_countFrom 171 = .ok (.iload 5, 2) := dk_21 5 (dk_at dksX5_countFrom_7 10 rfl rfl)
theorem dX5_countFrom_173 : decode cX5_countFrom 173 = .ok (.ireturn, 1) := dk_172 (dk_at dksX5_countFrom_7 12 rfl rfl)
abbrev cX5_reasonFor : ByteArray := prog_4_method_27_code
def yX5_reasonFor : MethodName := ⟨RX5, "reasonFor", "(IILEdgeLetters$Board;)I"⟩
def dkwX5_reasonFor_1 : List UInt8 := [172, 132, 4, 1, 167, 255, 231, 3, 172]
abbrev dktX5_reasonFor_1 : List UInt8 := dkwX5_reasonFor_1 ++ []
def dkwX5_reasonFor_0 : List UInt8 := [4, 54, 4, 21, 4, 16, 6, 163, 0, 24, 42, 21, 4, 27, 28, 45, 182, 0, 171, 153, 0, 6, 21, 4]
abbrev dktX5_reasonFor_0 : List UInt8 := dkwX5_reasonFor_0 ++ dktX5_reasonFor_1
theorem dksX5_reasonFor_0 : cX5_reasonFor.data.toList.drop 0 = dktX5_reasonFor_0 := by decide +kernel
theorem dksX5_reasonFor_1 : cX5_reasonFor.data.toList.drop 24 = dktX5_reasonFor_1 := dk_seg dksX5_reasonFor_0 24 rfl rfl
theorem dX5_reasonFor_0 : decode cX5_reasonFor 0 = .ok (.iconst 1, 1) := dk_4 (dk_at dksX5_reasonFor_0 0 rfl rfl)
theorem dX5_reasonFor_1 : decode cX5_reasonFor 1 = .ok (.istore 4, 2) := dk_54 4 (dk_at dksX5_reasonFor_0 1 rfl rfl)
theorem dX5_reasonFor_3 : decode cX5_reasonFor 3 = .ok (.iload 4, 2) := dk_21 4 (dk_at dksX5_reasonFor_0 3 rfl rfl)
theorem dX5_reasonFor_5 : decode cX5_reasonFor 5 = .ok (.bipush 6, 2) := dk_16 6 (dk_at dksX5_reasonFor_0 5 rfl rfl)
theorem dX5_reasonFor_7 : decode cX5_reasonFor 7 = .ok (.if_icmp .gt 24, 3) := dk_163 0 24 (dk_at dksX5_reasonFor_0 7 rfl rfl)
theorem dX5_reasonFor_10 : decode cX5_reasonFor 10 = .ok (.aload_n 0, 1) := dk_42 (dk_at dksX5_reasonFor_0 10 rfl rfl)
theorem dX5_reasonFor_11 : decode cX5_reasonFor 11 = .ok (.iload 4, 2) := dk_21 4 (dk_at dksX5_reasonFor_0 11 rfl rfl)
theorem dX5_reasonFor_13 : decode cX5_reasonFor 13 = .ok (.iload_n 1, 1) := dk_27 (dk_at dksX5_reasonFor_0 13 rfl rfl)
theorem dX5_reasonFor_14 : decode cX5_reasonFor 14 = .ok (.iload_n 2, 1) := dk_28 (dk_at dksX5_reasonFor_0 14 rfl rfl)
theorem dX5_reasonFor_15 : decode cX5_reasonFor 15 = .ok (.aload_n 3, 1) := dk_45 (dk_at dksX5_reasonFor_0 15 rfl rfl)
theorem dX5_reasonFor_16 : decode cX5_reasonFor 16 = .ok (.invokevirtual 171, 3) := dk_182 0 171 (dk_at dksX5_reasonFor_0 16 rfl rfl)
theorem dX5_reasonFor_19 : decode cX5_reasonFor 19 = .ok (.ifCond .eq 6, 3) := dk_153 0 6 (dk_at dksX5_reasonFor_0 19 rfl rfl)
theorem dX5_reasonFor_22 : decode cX5_reasonFor 22 = .ok (.iload 4, 2) := dk_21 4 (dk_at dksX5_reasonFor_0 22 rfl rfl)
theorem dX5_reasonFor_24 : decode cX5_reasonFor 24 = .ok (.ireturn, 1) := dk_172 (dk_at dksX5_reasonFor_1 0 rfl rfl)
theorem dX5_reasonFor_25 : decode cX5_reasonFor 25 = .ok (.iinc 4 1, 3) := dk_132 4 1 (dk_at dksX5_reasonFor_1 1 rfl rfl)
theorem dX5_reasonFor_28 : decode cX5_reasonFor 28 = .ok (.goto (-25), 3) := dk_167 255 231 (dk_at dksX5_reasonFor_1 4 rfl rfl)
theorem dX5_reasonFor_31 : decode cX5_reasonFor 31 = .ok (.iconst 0, 1) := dk_3 (dk_at dksX5_reasonFor_1 7 rfl rfl)
theorem dX5_reasonFor_32 : decode cX5_reasonFor 32 = .ok (.ireturn, 1) := dk_172 (dk_at dksX5_reasonFor_1 8 rfl rfl)
theorem q132 : (Jvm.Cond.initialized "EdgeLetters$Board") ∈ lw_all := lw_g (lw_at lw_m1 14 rfl) rfl
theorem q264 : (Jvm.Cond.selects "EdgeLetters$Board" ({ cls := "java/lang/Object", name := "getClass", desc := "()Ljava/lang/Class;" } : Jvm.MethodName) ({ cls := "java/lang/Object", name := "getClass", desc := "()Ljava/lang/Class;" } : Jvm.MethodName)) ∈ lw_all := lw_g (lw_at lw_m1 146 rfl) rfl
theorem q324 : (Jvm.Cond.fieldLinkNest "EdgeLetters$Board" (50 : Nat) "EdgeLetters$Puzzle" "lines" "[[I" "EdgeLetters") ∈ lw_tbl := lw_at lw_m1 206 rfl
theorem q327 : (Jvm.Cond.fieldLinkNest "EdgeLetters$Board" (117 : Nat) "EdgeLetters$Puzzle" "linesOf" "[I" "EdgeLetters") ∈ lw_tbl := lw_at lw_m1 209 rfl
theorem q329 : (Jvm.Cond.fieldLinkNest "EdgeLetters$Board" (64 : Nat) "EdgeLetters$Puzzle" "arrangements" "LEdgeLetters$Arrangements;" "EdgeLetters") ∈ lw_tbl := lw_at lw_m1 211 rfl
theorem q331 : (Jvm.Cond.fieldLinkNest "EdgeLetters$Board" (53 : Nat) "EdgeLetters$Puzzle" "side" "I" "EdgeLetters") ∈ lw_tbl := lw_at lw_m1 213 rfl
theorem q333 : (Jvm.Cond.fieldLinkNest "EdgeLetters$Board" (28 : Nat) "EdgeLetters$Puzzle" "letters" "I" "EdgeLetters") ∈ lw_tbl := lw_at lw_m1 215 rfl
theorem q358 : (Jvm.Cond.instantiable "EdgeLetters$Board" (3 : Nat)) ∈ lw_all := lw_g (lw_at lw_m2 0 rfl) rfl
theorem q360 : (Jvm.Cond.instanceMethod ({ cls := "EdgeLetters$Board", name := "<init>", desc := "(LEdgeLetters$Puzzle;)V" } : Jvm.MethodName)) ∈ lw_all := lw_g (lw_at lw_m2 2 rfl) rfl
theorem q361 : (Jvm.Cond.code ({ cls := "EdgeLetters$Board", name := "<init>", desc := "(LEdgeLetters$Puzzle;)V" } : Jvm.MethodName) prog_4_method_1_code (2 : Nat) (Option.none : Option Jvm.ClassFile.FieldType)) ∈ lw_all := lw_g (lw_at lw_m2 3 rfl) rfl
theorem q362 : (Jvm.Cond.methodLink "EdgeLetters$Board" (3 : Nat) ({ cls := "java/lang/Object", name := "<init>", desc := "()V" } : Jvm.MethodName)) ∈ lw_all := lw_g (lw_at lw_m2 4 rfl) rfl
theorem q363 : (Jvm.Cond.classLink "EdgeLetters$Board" (15 : Nat) "[[I") ∈ lw_all := lw_g (lw_at lw_m2 5 rfl) rfl
theorem q364 : (Jvm.Cond.methodLink "EdgeLetters$Board" (24 : Nat) ({ cls := "EdgeLetters$Board", name := "clear", desc := "()I" } : Jvm.MethodName)) ∈ lw_all := lw_g (lw_at lw_m2 6 rfl) rfl
theorem q365 : (Jvm.Cond.instanceMethod ({ cls := "EdgeLetters$Board", name := "clear", desc := "()I" } : Jvm.MethodName)) ∈ lw_all := lw_g (lw_at lw_m2 7 rfl) rfl
theorem q366 : (Jvm.Cond.selects "EdgeLetters$Board" ({ cls := "EdgeLetters$Board", name := "clear", desc := "()I" } : Jvm.MethodName) ({ cls := "EdgeLetters$Board", name := "clear", desc := "()I" } : Jvm.MethodName)) ∈ lw_all := lw_g (lw_at lw_m2 8 rfl) rfl
theorem q367 : (Jvm.Cond.code ({ cls := "EdgeLetters$Board", name := "clear", desc := "()I" } : Jvm.MethodName) prog_4_method_3_code (3 : Nat) (Option.some Jvm.ClassFile.FieldType.int)) ∈ lw_all := lw_g (lw_at lw_m2 9 rfl) rfl
theorem q368 : (Jvm.Cond.methodLink "EdgeLetters$Board" (34 : Nat) ({ cls := "EdgeLetters$Puzzle", name := "cellCount", desc := "()I" } : Jvm.MethodName)) ∈ lw_all := lw_g (lw_at lw_m2 10 rfl) rfl
theorem q372 : (Jvm.Cond.methodLink "EdgeLetters$Board" (37 : Nat) ({ cls := "EdgeLetters$Board", name := "everything", desc := "()I" } : Jvm.MethodName)) ∈ lw_all := lw_g (lw_at lw_m2 14 rfl) rfl
theorem q373 : (Jvm.Cond.instanceMethod ({ cls := "EdgeLetters$Board", name := "everything", desc := "()I" } : Jvm.MethodName)) ∈ lw_all := lw_g (lw_at lw_m2 15 rfl) rfl
theorem q374 : (Jvm.Cond.selects "EdgeLetters$Board" ({ cls := "EdgeLetters$Board", name := "everything", desc := "()I" } : Jvm.MethodName) ({ cls := "EdgeLetters$Board", name := "everything", desc := "()I" } : Jvm.MethodName)) ∈ lw_all := lw_g (lw_at lw_m2 16 rfl) rfl
theorem q375 : (Jvm.Cond.code ({ cls := "EdgeLetters$Board", name := "everything", desc := "()I" } : Jvm.MethodName) prog_4_method_2_code (1 : Nat) (Option.some Jvm.ClassFile.FieldType.int)) ∈ lw_all := lw_g (lw_at lw_m2 17 rfl) rfl
theorem q376 : (Jvm.Cond.fieldLink "EdgeLetters$Board" (20 : Nat) "EdgeLetters$Board" "puzzle" "LEdgeLetters$Puzzle;") ∈ lw_all := lw_g (lw_at lw_m2 18 rfl) rfl
theorem q377 : (Jvm.Cond.fieldLink "EdgeLetters$Board" (9 : Nat) "EdgeLetters$Board" "things" "[I") ∈ lw_all := lw_g (lw_at lw_m2 19 rfl) rfl
theorem q379 : (Jvm.Cond.fieldLink "EdgeLetters$Board" (17 : Nat) "EdgeLetters$Board" "rowsBefore" "[[I") ∈ lw_all := lw_g (lw_at lw_m2 21 rfl) rfl
theorem q380 : (Jvm.Cond.laysFinal "EdgeLetters$Board" "EdgeLetters$Board" "puzzle" "LEdgeLetters$Puzzle;") ∈ lw_all := lw_g (lw_at lw_m2 22 rfl) rfl
theorem q381 : (Jvm.Cond.soleField "EdgeLetters$Board" "puzzle") ∈ lw_all := lw_g (lw_at lw_m2 23 rfl) rfl
theorem q382 : (Jvm.Cond.laysFinal "EdgeLetters$Board" "EdgeLetters$Board" "things" "[I") ∈ lw_all := lw_g (lw_at lw_m2 24 rfl) rfl
theorem q383 : (Jvm.Cond.soleField "EdgeLetters$Board" "things") ∈ lw_all := lw_g (lw_at lw_m2 25 rfl) rfl
theorem q384 : (Jvm.Cond.laysFinal "EdgeLetters$Board" "EdgeLetters$Board" "rowsBefore" "[[I") ∈ lw_all := lw_g (lw_at lw_m2 26 rfl) rfl
theorem q385 : (Jvm.Cond.soleField "EdgeLetters$Board" "rowsBefore") ∈ lw_all := lw_g (lw_at lw_m2 27 rfl) rfl
theorem q386 : (Jvm.Cond.superclass "EdgeLetters$Board" "java/lang/Object") ∈ lw_all := lw_g (lw_at lw_m2 28 rfl) rfl
theorem q513 : (Jvm.Cond.instanceMethod ({ cls := "EdgeLetters$Board", name := "setThings", desc := "(LEdgeLetters$Board;)V" } : Jvm.MethodName)) ∈ lw_all := lw_g (lw_at lw_m2 155 rfl) rfl
theorem q514 : (Jvm.Cond.selects "EdgeLetters$Board" ({ cls := "EdgeLetters$Board", name := "setThings", desc := "(LEdgeLetters$Board;)V" } : Jvm.MethodName) ({ cls := "EdgeLetters$Board", name := "setThings", desc := "(LEdgeLetters$Board;)V" } : Jvm.MethodName)) ∈ lw_all := lw_g (lw_at lw_m2 156 rfl) rfl
theorem q515 : (Jvm.Cond.code ({ cls := "EdgeLetters$Board", name := "setThings", desc := "(LEdgeLetters$Board;)V" } : Jvm.MethodName) prog_4_method_4_code (2 : Nat) (Option.none : Option Jvm.ClassFile.FieldType)) ∈ lw_all := lw_g (lw_at lw_m2 157 rfl) rfl
theorem q516 : (Jvm.Cond.methodLink "EdgeLetters$Board" (40 : Nat) ({ cls := "java/lang/System", name := "arraycopy", desc := "(Ljava/lang/Object;ILjava/lang/Object;II)V" } : Jvm.MethodName)) ∈ lw_all := lw_g (lw_at lw_m2 158 rfl) rfl
theorem q610 : (Jvm.Cond.instanceMethod ({ cls := "EdgeLetters$Board", name := "isSettled", desc := "(I)Z" } : Jvm.MethodName)) ∈ lw_all := lw_g (lw_at lw_m3 12 rfl) rfl
theorem q611 : (Jvm.Cond.selects "EdgeLetters$Board" ({ cls := "EdgeLetters$Board", name := "isSettled", desc := "(I)Z" } : Jvm.MethodName) ({ cls := "EdgeLetters$Board", name := "isSettled", desc := "(I)Z" } : Jvm.MethodName)) ∈ lw_all := lw_g (lw_at lw_m3 13 rfl) rfl
theorem q612 : (Jvm.Cond.code ({ cls := "EdgeLetters$Board", name := "isSettled", desc := "(I)Z" } : Jvm.MethodName) prog_4_method_5_code (2 : Nat) (Option.some Jvm.ClassFile.FieldType.boolean)) ∈ lw_all := lw_g (lw_at lw_m3 14 rfl) rfl
theorem q613 : (Jvm.Cond.methodLinkNest "EdgeLetters$Board" (46 : Nat) ({ cls := "EdgeLetters", name := "isSingle", desc := "(I)Z" } : Jvm.MethodName) "EdgeLetters") ∈ lw_tbl := lw_at lw_m3 15 rfl
theorem q619 : (Jvm.Cond.instanceMethod ({ cls := "EdgeLetters$Board", name := "isBroken", desc := "()Z" } : Jvm.MethodName)) ∈ lw_all := lw_g (lw_at lw_m3 21 rfl) rfl
theorem q620 : (Jvm.Cond.selects "EdgeLetters$Board" ({ cls := "EdgeLetters$Board", name := "isBroken", desc := "()Z" } : Jvm.MethodName) ({ cls := "EdgeLetters$Board", name := "isBroken", desc := "()Z" } : Jvm.MethodName)) ∈ lw_all := lw_g (lw_at lw_m3 22 rfl) rfl
theorem q621 : (Jvm.Cond.code ({ cls := "EdgeLetters$Board", name := "isBroken", desc := "()Z" } : Jvm.MethodName) prog_4_method_13_code (2 : Nat) (Option.some Jvm.ClassFile.FieldType.boolean)) ∈ lw_all := lw_g (lw_at lw_m3 23 rfl) rfl
theorem q622 : (Jvm.Cond.methodLink "EdgeLetters$Board" (111 : Nat) ({ cls := "EdgeLetters$Puzzle", name := "lineCount", desc := "()I" } : Jvm.MethodName)) ∈ lw_all := lw_g (lw_at lw_m3 24 rfl) rfl
theorem q623 : (Jvm.Cond.methodLink "EdgeLetters$Board" (114 : Nat) ({ cls := "EdgeLetters$Board", name := "isLineBroken", desc := "(I)Z" } : Jvm.MethodName)) ∈ lw_all := lw_g (lw_at lw_m3 25 rfl) rfl
theorem q624 : (Jvm.Cond.instanceMethod ({ cls := "EdgeLetters$Board", name := "isLineBroken", desc := "(I)Z" } : Jvm.MethodName)) ∈ lw_all := lw_g (lw_at lw_m3 26 rfl) rfl
theorem q625 : (Jvm.Cond.selects "EdgeLetters$Board" ({ cls := "EdgeLetters$Board", name := "isLineBroken", desc := "(I)Z" } : Jvm.MethodName) ({ cls := "EdgeLetters$Board", name := "isLineBroken", desc := "(I)Z" } : Jvm.MethodName)) ∈ lw_all := lw_g (lw_at lw_m3 27 rfl) rfl
theorem q626 : (Jvm.Cond.code ({ cls := "EdgeLetters$Board", name := "isLineBroken", desc := "(I)Z" } : Jvm.MethodName) prog_4_method_8_code (3 : Nat) (Option.some Jvm.ClassFile.FieldType.boolean)) ∈ lw_all := lw_g (lw_at lw_m3 28 rfl) rfl
theorem q627 : (Jvm.Cond.methodLink "EdgeLetters$Board" (88 : Nat) ({ cls := "EdgeLetters$Arrangements", name := "count", desc := "()I" } : Jvm.MethodName)) ∈ lw_all := lw_g (lw_at lw_m3 29 rfl) rfl
theorem q633 : (Jvm.Cond.methodLink "EdgeLetters$Board" (91 : Nat) ({ cls := "EdgeLetters$Arrangements", name := "at", desc := "(I)[I" } : Jvm.MethodName)) ∈ lw_all := lw_g (lw_at lw_m3 35 rfl) rfl
theorem q651 : (Jvm.Cond.methodLink "EdgeLetters$Board" (85 : Nat) ({ cls := "EdgeLetters$Board", name := "canHave", desc := "(I[I)Z" } : Jvm.MethodName)) ∈ lw_all := lw_g (lw_at lw_m3 53 rfl) rfl
theorem q652 : (Jvm.Cond.privateMethod ({ cls := "EdgeLetters$Board", name := "canHave", desc := "(I[I)Z" } : Jvm.MethodName)) ∈ lw_tbl := lw_at lw_m3 54 rfl
theorem q653 : (Jvm.Cond.instanceMethod ({ cls := "EdgeLetters$Board", name := "canHave", desc := "(I[I)Z" } : Jvm.MethodName)) ∈ lw_all := lw_g (lw_at lw_m3 55 rfl) rfl
theorem q654 : (Jvm.Cond.code ({ cls := "EdgeLetters$Board", name := "canHave", desc := "(I[I)Z" } : Jvm.MethodName) prog_4_method_6_code (5 : Nat) (Option.some Jvm.ClassFile.FieldType.boolean)) ∈ lw_all := lw_g (lw_at lw_m3 56 rfl) rfl
theorem q655 : (Jvm.Cond.methodLinkNest "EdgeLetters$Board" (56 : Nat) ({ cls := "EdgeLetters", name := "has", desc := "(II)Z" } : Jvm.MethodName) "EdgeLetters") ∈ lw_tbl := lw_at lw_m3 57 rfl
theorem q656 : (Jvm.Cond.methodLink "EdgeLetters$Board" (60 : Nat) ({ cls := "EdgeLetters$Puzzle", name := "isTrue", desc := "(I[I)Z" } : Jvm.MethodName)) ∈ lw_all := lw_g (lw_at lw_m3 58 rfl) rfl
theorem q675 : (Jvm.Cond.instanceMethod ({ cls := "EdgeLetters$Board", name := "isSolved", desc := "()Z" } : Jvm.MethodName)) ∈ lw_all := lw_g (lw_at lw_m3 77 rfl) rfl
theorem q676 : (Jvm.Cond.selects "EdgeLetters$Board" ({ cls := "EdgeLetters$Board", name := "isSolved", desc := "()Z" } : Jvm.MethodName) ({ cls := "EdgeLetters$Board", name := "isSolved", desc := "()Z" } : Jvm.MethodName)) ∈ lw_all := lw_g (lw_at lw_m3 78 rfl) rfl
theorem q677 : (Jvm.Cond.code ({ cls := "EdgeLetters$Board", name := "isSolved", desc := "()Z" } : Jvm.MethodName) prog_4_method_15_code (3 : Nat) (Option.some Jvm.ClassFile.FieldType.boolean)) ∈ lw_all := lw_g (lw_at lw_m3 79 rfl) rfl
theorem q678 : (Jvm.Cond.methodLink "EdgeLetters$Board" (120 : Nat) ({ cls := "EdgeLetters$Board", name := "isSettled", desc := "(I)Z" } : Jvm.MethodName)) ∈ lw_all := lw_g (lw_at lw_m3 80 rfl) rfl
theorem q679 : (Jvm.Cond.methodLink "EdgeLetters$Board" (123 : Nat) ({ cls := "EdgeLetters$Board", name := "isBroken", desc := "()Z" } : Jvm.MethodName)) ∈ lw_all := lw_g (lw_at lw_m3 81 rfl) rfl
theorem q685 : (Jvm.Cond.instanceMethod ({ cls := "EdgeLetters$Board", name := "brokenLines", desc := "()I" } : Jvm.MethodName)) ∈ lw_all := lw_g (lw_at lw_m3 87 rfl) rfl
theorem q686 : (Jvm.Cond.selects "EdgeLetters$Board" ({ cls := "EdgeLetters$Board", name := "brokenLines", desc := "()I" } : Jvm.MethodName) ({ cls := "EdgeLetters$Board", name := "brokenLines", desc := "()I" } : Jvm.MethodName)) ∈ lw_all := lw_g (lw_at lw_m3 88 rfl) rfl
theorem q687 : (Jvm.Cond.code ({ cls := "EdgeLetters$Board", name := "brokenLines", desc := "()I" } : Jvm.MethodName) prog_4_method_12_code (3 : Nat) (Option.some Jvm.ClassFile.FieldType.int)) ∈ lw_all := lw_g (lw_at lw_m3 89 rfl) rfl
theorem q693 : (Jvm.Cond.instanceMethod ({ cls := "EdgeLetters$Board", name := "next", desc := "(ILEdgeLetters$Board;)I" } : Jvm.MethodName)) ∈ lw_all := lw_g (lw_at lw_m3 95 rfl) rfl
theorem q694 : (Jvm.Cond.selects "EdgeLetters$Board" ({ cls := "EdgeLetters$Board", name := "next", desc := "(ILEdgeLetters$Board;)I" } : Jvm.MethodName) ({ cls := "EdgeLetters$Board", name := "next", desc := "(ILEdgeLetters$Board;)I" } : Jvm.MethodName)) ∈ lw_all := lw_g (lw_at lw_m3 96 rfl) rfl
theorem q695 : (Jvm.Cond.code ({ cls := "EdgeLetters$Board", name := "next", desc := "(ILEdgeLetters$Board;)I" } : Jvm.MethodName) prog_4_method_29_code (5 : Nat) (Option.some Jvm.ClassFile.FieldType.int)) ∈ lw_all := lw_g (lw_at lw_m3 97 rfl) rfl
theorem q696 : (Jvm.Cond.methodLink "EdgeLetters$Board" (175 : Nat) ({ cls := "EdgeLetters$Board", name := "nextFor", desc := "(ILEdgeLetters$Board;)I" } : Jvm.MethodName)) ∈ lw_all := lw_g (lw_at lw_m3 98 rfl) rfl
theorem q697 : (Jvm.Cond.privateMethod ({ cls := "EdgeLetters$Board", name := "nextFor", desc := "(ILEdgeLetters$Board;)I" } : Jvm.MethodName)) ∈ lw_tbl := lw_at lw_m3 99 rfl
theorem q698 : (Jvm.Cond.instanceMethod ({ cls := "EdgeLetters$Board", name := "nextFor", desc := "(ILEdgeLetters$Board;)I" } : Jvm.MethodName)) ∈ lw_all := lw_g (lw_at lw_m3 100 rfl) rfl
theorem q699 : (Jvm.Cond.code ({ cls := "EdgeLetters$Board", name := "nextFor", desc := "(ILEdgeLetters$Board;)I" } : Jvm.MethodName) prog_4_method_28_code (6 : Nat) (Option.some Jvm.ClassFile.FieldType.int)) ∈ lw_all := lw_g (lw_at lw_m3 101 rfl) rfl
theorem q700 : (Jvm.Cond.methodLink "EdgeLetters$Board" (104 : Nat) ({ cls := "java/lang/Integer", name := "numberOfTrailingZeros", desc := "(I)I" } : Jvm.MethodName)) ∈ lw_all := lw_g (lw_at lw_m3 102 rfl) rfl
theorem q701 : (Jvm.Cond.methodLink "EdgeLetters$Board" (171 : Nat) ({ cls := "EdgeLetters$Board", name := "holds", desc := "(IIILEdgeLetters$Board;)Z" } : Jvm.MethodName)) ∈ lw_all := lw_g (lw_at lw_m3 103 rfl) rfl
theorem q702 : (Jvm.Cond.instanceMethod ({ cls := "EdgeLetters$Board", name := "holds", desc := "(IIILEdgeLetters$Board;)Z" } : Jvm.MethodName)) ∈ lw_all := lw_g (lw_at lw_m3 104 rfl) rfl
theorem q703 : (Jvm.Cond.selects "EdgeLetters$Board" ({ cls := "EdgeLetters$Board", name := "holds", desc := "(IIILEdgeLetters$Board;)Z" } : Jvm.MethodName) ({ cls := "EdgeLetters$Board", name := "holds", desc := "(IIILEdgeLetters$Board;)Z" } : Jvm.MethodName)) ∈ lw_all := lw_g (lw_at lw_m3 105 rfl) rfl
theorem q704 : (Jvm.Cond.code ({ cls := "EdgeLetters$Board", name := "holds", desc := "(IIILEdgeLetters$Board;)Z" } : Jvm.MethodName) prog_4_method_26_code (7 : Nat) (Option.some Jvm.ClassFile.FieldType.boolean)) ∈ lw_all := lw_g (lw_at lw_m3 106 rfl) rfl
theorem q705 : (Jvm.Cond.methodLink "EdgeLetters$Board" (163 : Nat) ({ cls := "EdgeLetters$Board", name := "breaksAs", desc := "(IILEdgeLetters$Board;)Z" } : Jvm.MethodName)) ∈ lw_all := lw_g (lw_at lw_m3 107 rfl) rfl
theorem q706 : (Jvm.Cond.privateMethod ({ cls := "EdgeLetters$Board", name := "breaksAs", desc := "(IILEdgeLetters$Board;)Z" } : Jvm.MethodName)) ∈ lw_tbl := lw_at lw_m3 108 rfl
theorem q707 : (Jvm.Cond.instanceMethod ({ cls := "EdgeLetters$Board", name := "breaksAs", desc := "(IILEdgeLetters$Board;)Z" } : Jvm.MethodName)) ∈ lw_all := lw_g (lw_at lw_m3 109 rfl) rfl
theorem q708 : (Jvm.Cond.code ({ cls := "EdgeLetters$Board", name := "breaksAs", desc := "(IILEdgeLetters$Board;)Z" } : Jvm.MethodName) prog_4_method_23_code (4 : Nat) (Option.some Jvm.ClassFile.FieldType.boolean)) ∈ lw_all := lw_g (lw_at lw_m3 110 rfl) rfl
theorem q709 : (Jvm.Cond.methodLink "EdgeLetters$Board" (153 : Nat) ({ cls := "EdgeLetters$Board", name := "setThings", desc := "(LEdgeLetters$Board;)V" } : Jvm.MethodName)) ∈ lw_all := lw_g (lw_at lw_m3 111 rfl) rfl
theorem q710 : (Jvm.Cond.methodLink "EdgeLetters$Board" (157 : Nat) ({ cls := "EdgeLetters$Board", name := "fill", desc := "()V" } : Jvm.MethodName)) ∈ lw_all := lw_g (lw_at lw_m3 112 rfl) rfl
theorem q711 : (Jvm.Cond.privateMethod ({ cls := "EdgeLetters$Board", name := "fill", desc := "()V" } : Jvm.MethodName)) ∈ lw_tbl := lw_at lw_m3 113 rfl
theorem q712 : (Jvm.Cond.instanceMethod ({ cls := "EdgeLetters$Board", name := "fill", desc := "()V" } : Jvm.MethodName)) ∈ lw_all := lw_g (lw_at lw_m3 114 rfl) rfl
theorem q713 : (Jvm.Cond.code ({ cls := "EdgeLetters$Board", name := "fill", desc := "()V" } : Jvm.MethodName) prog_4_method_24_code (3 : Nat) (Option.none : Option Jvm.ClassFile.FieldType)) ∈ lw_all := lw_g (lw_at lw_m3 115 rfl) rfl
theorem q714 : (Jvm.Cond.methodLink "EdgeLetters$Board" (160 : Nat) ({ cls := "EdgeLetters$Board", name := "fillLine", desc := "(I)Z" } : Jvm.MethodName)) ∈ lw_all := lw_g (lw_at lw_m3 116 rfl) rfl
theorem q715 : (Jvm.Cond.privateMethod ({ cls := "EdgeLetters$Board", name := "fillLine", desc := "(I)Z" } : Jvm.MethodName)) ∈ lw_tbl := lw_at lw_m3 117 rfl
theorem q716 : (Jvm.Cond.instanceMethod ({ cls := "EdgeLetters$Board", name := "fillLine", desc := "(I)Z" } : Jvm.MethodName)) ∈ lw_all := lw_g (lw_at lw_m3 118 rfl) rfl
theorem q717 : (Jvm.Cond.code ({ cls := "EdgeLetters$Board", name := "fillLine", desc := "(I)Z" } : Jvm.MethodName) prog_4_method_25_code (7 : Nat) (Option.some Jvm.ClassFile.FieldType.boolean)) ∈ lw_all := lw_g (lw_at lw_m3 119 rfl) rfl
theorem q718 : (Jvm.Cond.methodLink "EdgeLetters$Board" (95 : Nat) ({ cls := "EdgeLetters$Board", name := "linePossible", desc := "(I)I" } : Jvm.MethodName)) ∈ lw_all := lw_g (lw_at lw_m3 120 rfl) rfl
theorem q719 : (Jvm.Cond.privateMethod ({ cls := "EdgeLetters$Board", name := "linePossible", desc := "(I)I" } : Jvm.MethodName)) ∈ lw_tbl := lw_at lw_m3 121 rfl
theorem q720 : (Jvm.Cond.instanceMethod ({ cls := "EdgeLetters$Board", name := "linePossible", desc := "(I)I" } : Jvm.MethodName)) ∈ lw_all := lw_g (lw_at lw_m3 122 rfl) rfl
theorem q721 : (Jvm.Cond.code ({ cls := "EdgeLetters$Board", name := "linePossible", desc := "(I)I" } : Jvm.MethodName) prog_4_method_9_code (6 : Nat) (Option.some Jvm.ClassFile.FieldType.int)) ∈ lw_all := lw_g (lw_at lw_m3 123 rfl) rfl
theorem q722 : (Jvm.Cond.methodLink "EdgeLetters$Board" (167 : Nat) ({ cls := "EdgeLetters$Board", name := "holdsIn", desc := "(IIII)Z" } : Jvm.MethodName)) ∈ lw_all := lw_g (lw_at lw_m3 124 rfl) rfl
theorem q723 : (Jvm.Cond.privateMethod ({ cls := "EdgeLetters$Board", name := "holdsIn", desc := "(IIII)Z" } : Jvm.MethodName)) ∈ lw_tbl := lw_at lw_m3 125 rfl
theorem q724 : (Jvm.Cond.instanceMethod ({ cls := "EdgeLetters$Board", name := "holdsIn", desc := "(IIII)Z" } : Jvm.MethodName)) ∈ lw_all := lw_g (lw_at lw_m3 126 rfl) rfl
theorem q725 : (Jvm.Cond.code ({ cls := "EdgeLetters$Board", name := "holdsIn", desc := "(IIII)Z" } : Jvm.MethodName) prog_4_method_22_code (5 : Nat) (Option.some Jvm.ClassFile.FieldType.boolean)) ∈ lw_all := lw_g (lw_at lw_m3 127 rfl) rfl
theorem q726 : (Jvm.Cond.methodLink "EdgeLetters$Board" (133 : Nat) ({ cls := "EdgeLetters$Board", name := "settledWith", desc := "(III)I" } : Jvm.MethodName)) ∈ lw_all := lw_g (lw_at lw_m3 128 rfl) rfl
theorem q727 : (Jvm.Cond.privateMethod ({ cls := "EdgeLetters$Board", name := "settledWith", desc := "(III)I" } : Jvm.MethodName)) ∈ lw_tbl := lw_at lw_m3 129 rfl
theorem q728 : (Jvm.Cond.instanceMethod ({ cls := "EdgeLetters$Board", name := "settledWith", desc := "(III)I" } : Jvm.MethodName)) ∈ lw_all := lw_g (lw_at lw_m3 130 rfl) rfl
theorem q729 : (Jvm.Cond.code ({ cls := "EdgeLetters$Board", name := "settledWith", desc := "(III)I" } : Jvm.MethodName) prog_4_method_17_code (7 : Nat) (Option.some Jvm.ClassFile.FieldType.int)) ∈ lw_all := lw_g (lw_at lw_m3 131 rfl) rfl
theorem q730 : (Jvm.Cond.methodLink "EdgeLetters$Board" (140 : Nat) ({ cls := "EdgeLetters$Board", name := "hasOther", desc := "(III)Z" } : Jvm.MethodName)) ∈ lw_all := lw_g (lw_at lw_m3 132 rfl) rfl
theorem q731 : (Jvm.Cond.privateMethod ({ cls := "EdgeLetters$Board", name := "hasOther", desc := "(III)Z" } : Jvm.MethodName)) ∈ lw_tbl := lw_at lw_m3 133 rfl
theorem q732 : (Jvm.Cond.instanceMethod ({ cls := "EdgeLetters$Board", name := "hasOther", desc := "(III)Z" } : Jvm.MethodName)) ∈ lw_all := lw_g (lw_at lw_m3 134 rfl) rfl
theorem q733 : (Jvm.Cond.code ({ cls := "EdgeLetters$Board", name := "hasOther", desc := "(III)Z" } : Jvm.MethodName) prog_4_method_19_code (7 : Nat) (Option.some Jvm.ClassFile.FieldType.boolean)) ∈ lw_all := lw_g (lw_at lw_m3 135 rfl) rfl
theorem q734 : (Jvm.Cond.methodLink "EdgeLetters$Board" (126 : Nat) ({ cls := "EdgeLetters$Board", name := "placeIn", desc := "(II)I" } : Jvm.MethodName)) ∈ lw_all := lw_g (lw_at lw_m3 136 rfl) rfl
theorem q735 : (Jvm.Cond.privateMethod ({ cls := "EdgeLetters$Board", name := "placeIn", desc := "(II)I" } : Jvm.MethodName)) ∈ lw_tbl := lw_at lw_m3 137 rfl
theorem q736 : (Jvm.Cond.instanceMethod ({ cls := "EdgeLetters$Board", name := "placeIn", desc := "(II)I" } : Jvm.MethodName)) ∈ lw_all := lw_g (lw_at lw_m3 138 rfl) rfl
theorem q737 : (Jvm.Cond.code ({ cls := "EdgeLetters$Board", name := "placeIn", desc := "(II)I" } : Jvm.MethodName) prog_4_method_18_code (4 : Nat) (Option.some Jvm.ClassFile.FieldType.int)) ∈ lw_all := lw_g (lw_at lw_m3 139 rfl) rfl
theorem q738 : (Jvm.Cond.methodLink "EdgeLetters$Board" (130 : Nat) ({ cls := "EdgeLetters$Board", name := "placesWith", desc := "(II)I" } : Jvm.MethodName)) ∈ lw_all := lw_g (lw_at lw_m3 140 rfl) rfl
theorem q739 : (Jvm.Cond.privateMethod ({ cls := "EdgeLetters$Board", name := "placesWith", desc := "(II)I" } : Jvm.MethodName)) ∈ lw_tbl := lw_at lw_m3 141 rfl
theorem q740 : (Jvm.Cond.instanceMethod ({ cls := "EdgeLetters$Board", name := "placesWith", desc := "(II)I" } : Jvm.MethodName)) ∈ lw_all := lw_g (lw_at lw_m3 142 rfl) rfl
theorem q741 : (Jvm.Cond.code ({ cls := "EdgeLetters$Board", name := "placesWith", desc := "(II)I" } : Jvm.MethodName) prog_4_method_16_code (5 : Nat) (Option.some Jvm.ClassFile.FieldType.int)) ∈ lw_all := lw_g (lw_at lw_m3 143 rfl) rfl
theorem q742 : (Jvm.Cond.methodLink "EdgeLetters$Board" (144 : Nat) ({ cls := "EdgeLetters$Board", name := "isByGaps", desc := "(III)Z" } : Jvm.MethodName)) ∈ lw_all := lw_g (lw_at lw_m3 144 rfl) rfl
theorem q743 : (Jvm.Cond.privateMethod ({ cls := "EdgeLetters$Board", name := "isByGaps", desc := "(III)Z" } : Jvm.MethodName)) ∈ lw_tbl := lw_at lw_m3 145 rfl
theorem q744 : (Jvm.Cond.instanceMethod ({ cls := "EdgeLetters$Board", name := "isByGaps", desc := "(III)Z" } : Jvm.MethodName)) ∈ lw_all := lw_g (lw_at lw_m3 146 rfl) rfl
theorem q745 : (Jvm.Cond.code ({ cls := "EdgeLetters$Board", name := "isByGaps", desc := "(III)Z" } : Jvm.MethodName) prog_4_method_20_code (5 : Nat) (Option.some Jvm.ClassFile.FieldType.boolean)) ∈ lw_all := lw_g (lw_at lw_m3 147 rfl) rfl
theorem q746 : (Jvm.Cond.methodLink "EdgeLetters$Board" (99 : Nat) ({ cls := "java/lang/Integer", name := "bitCount", desc := "(I)I" } : Jvm.MethodName)) ∈ lw_all := lw_g (lw_at lw_m3 148 rfl) rfl
theorem q747 : (Jvm.Cond.methodLink "EdgeLetters$Board" (137 : Nat) ({ cls := "EdgeLetters$Puzzle", name := "gaps", desc := "()I" } : Jvm.MethodName)) ∈ lw_all := lw_g (lw_at lw_m3 149 rfl) rfl
theorem q751 : (Jvm.Cond.methodLink "EdgeLetters$Board" (147 : Nat) ({ cls := "EdgeLetters$Board", name := "isInPair", desc := "(III)Z" } : Jvm.MethodName)) ∈ lw_all := lw_g (lw_at lw_m3 153 rfl) rfl
theorem q752 : (Jvm.Cond.privateMethod ({ cls := "EdgeLetters$Board", name := "isInPair", desc := "(III)Z" } : Jvm.MethodName)) ∈ lw_tbl := lw_at lw_m3 154 rfl
theorem q753 : (Jvm.Cond.instanceMethod ({ cls := "EdgeLetters$Board", name := "isInPair", desc := "(III)Z" } : Jvm.MethodName)) ∈ lw_all := lw_g (lw_at lw_m3 155 rfl) rfl
theorem q754 : (Jvm.Cond.code ({ cls := "EdgeLetters$Board", name := "isInPair", desc := "(III)Z" } : Jvm.MethodName) prog_4_method_21_code (10 : Nat) (Option.some Jvm.ClassFile.FieldType.boolean)) ∈ lw_all := lw_g (lw_at lw_m3 156 rfl) rfl
theorem q755 : (Jvm.Cond.methodLink "EdgeLetters$Board" (150 : Nat) ({ cls := "EdgeLetters$Board", name := "thingsIn", desc := "(II)I" } : Jvm.MethodName)) ∈ lw_all := lw_g (lw_at lw_m3 157 rfl) rfl
theorem q756 : (Jvm.Cond.instanceMethod ({ cls := "EdgeLetters$Board", name := "thingsIn", desc := "(II)I" } : Jvm.MethodName)) ∈ lw_all := lw_g (lw_at lw_m3 158 rfl) rfl
theorem q757 : (Jvm.Cond.selects "EdgeLetters$Board" ({ cls := "EdgeLetters$Board", name := "thingsIn", desc := "(II)I" } : Jvm.MethodName) ({ cls := "EdgeLetters$Board", name := "thingsIn", desc := "(II)I" } : Jvm.MethodName)) ∈ lw_all := lw_g (lw_at lw_m3 159 rfl) rfl
theorem q758 : (Jvm.Cond.code ({ cls := "EdgeLetters$Board", name := "thingsIn", desc := "(II)I" } : Jvm.MethodName) prog_4_method_10_code (3 : Nat) (Option.some Jvm.ClassFile.FieldType.int)) ∈ lw_all := lw_g (lw_at lw_m3 160 rfl) rfl
theorem q764 : (Jvm.Cond.instanceMethod ({ cls := "EdgeLetters$Board", name := "stepAll", desc := "(ILEdgeLetters$Board;)I" } : Jvm.MethodName)) ∈ lw_all := lw_g (lw_at lw_m3 166 rfl) rfl
theorem q765 : (Jvm.Cond.selects "EdgeLetters$Board" ({ cls := "EdgeLetters$Board", name := "stepAll", desc := "(ILEdgeLetters$Board;)I" } : Jvm.MethodName) ({ cls := "EdgeLetters$Board", name := "stepAll", desc := "(ILEdgeLetters$Board;)I" } : Jvm.MethodName)) ∈ lw_all := lw_g (lw_at lw_m3 167 rfl) rfl
theorem q766 : (Jvm.Cond.code ({ cls := "EdgeLetters$Board", name := "stepAll", desc := "(ILEdgeLetters$Board;)I" } : Jvm.MethodName) prog_4_method_31_code (6 : Nat) (Option.some Jvm.ClassFile.FieldType.int)) ∈ lw_all := lw_g (lw_at lw_m3 168 rfl) rfl
theorem q767 : (Jvm.Cond.methodLink "EdgeLetters$Board" (179 : Nat) ({ cls := "EdgeLetters$Board", name := "next", desc := "(ILEdgeLetters$Board;)I" } : Jvm.MethodName)) ∈ lw_all := lw_g (lw_at lw_m3 169 rfl) rfl
theorem q768 : (Jvm.Cond.methodLink "EdgeLetters$Board" (181 : Nat) ({ cls := "EdgeLetters$Board", name := "make", desc := "(I)I" } : Jvm.MethodName)) ∈ lw_all := lw_g (lw_at lw_m3 170 rfl) rfl
theorem q769 : (Jvm.Cond.instanceMethod ({ cls := "EdgeLetters$Board", name := "make", desc := "(I)I" } : Jvm.MethodName)) ∈ lw_all := lw_g (lw_at lw_m3 171 rfl) rfl
theorem q770 : (Jvm.Cond.selects "EdgeLetters$Board" ({ cls := "EdgeLetters$Board", name := "make", desc := "(I)I" } : Jvm.MethodName) ({ cls := "EdgeLetters$Board", name := "make", desc := "(I)I" } : Jvm.MethodName)) ∈ lw_all := lw_g (lw_at lw_m3 172 rfl) rfl
theorem q771 : (Jvm.Cond.code ({ cls := "EdgeLetters$Board", name := "make", desc := "(I)I" } : Jvm.MethodName) prog_4_method_30_code (2 : Nat) (Option.some Jvm.ClassFile.FieldType.int)) ∈ lw_all := lw_g (lw_at lw_m3 173 rfl) rfl
theorem q781 : (Jvm.Cond.instanceMethod ({ cls := "EdgeLetters$Board", name := "solutions", desc := "(IZ)LEdgeLetters$Found;" } : Jvm.MethodName)) ∈ lw_all := lw_g (lw_at lw_m3 183 rfl) rfl
theorem q782 : (Jvm.Cond.selects "EdgeLetters$Board" ({ cls := "EdgeLetters$Board", name := "solutions", desc := "(IZ)LEdgeLetters$Found;" } : Jvm.MethodName) ({ cls := "EdgeLetters$Board", name := "solutions", desc := "(IZ)LEdgeLetters$Found;" } : Jvm.MethodName)) ∈ lw_all := lw_g (lw_at lw_m3 184 rfl) rfl
theorem q783 : (Jvm.Cond.code ({ cls := "EdgeLetters$Board", name := "solutions", desc := "(IZ)LEdgeLetters$Found;" } : Jvm.MethodName) prog_4_method_35_code (4 : Nat) (Option.some (Jvm.ClassFile.FieldType.object "EdgeLetters$Found"))) ∈ lw_all := lw_g (lw_at lw_m3 185 rfl) rfl
theorem q784 : (Jvm.Cond.classLink "EdgeLetters$Board" (189 : Nat) "EdgeLetters$Found") ∈ lw_all := lw_g (lw_at lw_m3 186 rfl) rfl
theorem q786 : (Jvm.Cond.methodLink "EdgeLetters$Board" (209 : Nat) ({ cls := "EdgeLetters$Found", name := "<init>", desc := "(I)V" } : Jvm.MethodName)) ∈ lw_all := lw_g (lw_at lw_m3 188 rfl) rfl
theorem q792 : (Jvm.Cond.fieldLinkNest "EdgeLetters$Board" (196 : Nat) "EdgeLetters$Found" "wanted" "I" "EdgeLetters") ∈ lw_tbl := lw_at lw_m3 194 rfl
theorem q796 : (Jvm.Cond.fieldLinkNest "EdgeLetters$Board" (194 : Nat) "EdgeLetters$Found" "count" "I" "EdgeLetters") ∈ lw_tbl := lw_at lw_m3 198 rfl
theorem q809 : (Jvm.Cond.methodLink "EdgeLetters$Board" (205 : Nat) ({ cls := "EdgeLetters$Board", name := "search", desc := "(ZLEdgeLetters$Found;)V" } : Jvm.MethodName)) ∈ lw_all := lw_g (lw_at lw_m3 211 rfl) rfl
theorem q810 : (Jvm.Cond.privateMethod ({ cls := "EdgeLetters$Board", name := "search", desc := "(ZLEdgeLetters$Found;)V" } : Jvm.MethodName)) ∈ lw_tbl := lw_at lw_m3 212 rfl
theorem q811 : (Jvm.Cond.instanceMethod ({ cls := "EdgeLetters$Board", name := "search", desc := "(ZLEdgeLetters$Found;)V" } : Jvm.MethodName)) ∈ lw_all := lw_g (lw_at lw_m3 213 rfl) rfl
theorem q812 : (Jvm.Cond.code ({ cls := "EdgeLetters$Board", name := "search", desc := "(ZLEdgeLetters$Found;)V" } : Jvm.MethodName) prog_4_method_34_code (6 : Nat) (Option.none : Option Jvm.ClassFile.FieldType)) ∈ lw_all := lw_g (lw_at lw_m3 214 rfl) rfl
theorem q813 : (Jvm.Cond.methodLink "EdgeLetters$Board" (184 : Nat) ({ cls := "EdgeLetters$Board", name := "nextCell", desc := "(Z)I" } : Jvm.MethodName)) ∈ lw_all := lw_g (lw_at lw_m3 215 rfl) rfl
theorem q814 : (Jvm.Cond.privateMethod ({ cls := "EdgeLetters$Board", name := "nextCell", desc := "(Z)I" } : Jvm.MethodName)) ∈ lw_tbl := lw_at lw_m3 216 rfl
theorem q815 : (Jvm.Cond.instanceMethod ({ cls := "EdgeLetters$Board", name := "nextCell", desc := "(Z)I" } : Jvm.MethodName)) ∈ lw_all := lw_g (lw_at lw_m3 217 rfl) rfl
theorem q816 : (Jvm.Cond.code ({ cls := "EdgeLetters$Board", name := "nextCell", desc := "(Z)I" } : Jvm.MethodName) prog_4_method_33_code (5 : Nat) (Option.some Jvm.ClassFile.FieldType.int)) ∈ lw_all := lw_g (lw_at lw_m3 218 rfl) rfl
theorem q817 : (Jvm.Cond.methodLink "EdgeLetters$Board" (188 : Nat) ({ cls := "EdgeLetters$Found", name := "add", desc := "([I)V" } : Jvm.MethodName)) ∈ lw_all := lw_g (lw_at lw_m3 219 rfl) rfl
theorem q822 : (Jvm.Cond.methodLink "EdgeLetters$Board" (199 : Nat) ({ cls := "java/lang/Integer", name := "lowestOneBit", desc := "(I)I" } : Jvm.MethodName)) ∈ lw_all := lw_g (lw_at lw_m3 224 rfl) rfl
theorem q825 : (Jvm.Cond.methodLink "EdgeLetters$Board" (202 : Nat) ({ cls := "EdgeLetters$Board", name := "isBrokenAt", desc := "(I)Z" } : Jvm.MethodName)) ∈ lw_all := lw_g (lw_at lw_m3 227 rfl) rfl
theorem q826 : (Jvm.Cond.instanceMethod ({ cls := "EdgeLetters$Board", name := "isBrokenAt", desc := "(I)Z" } : Jvm.MethodName)) ∈ lw_all := lw_g (lw_at lw_m3 228 rfl) rfl
theorem q827 : (Jvm.Cond.selects "EdgeLetters$Board" ({ cls := "EdgeLetters$Board", name := "isBrokenAt", desc := "(I)Z" } : Jvm.MethodName) ({ cls := "EdgeLetters$Board", name := "isBrokenAt", desc := "(I)Z" } : Jvm.MethodName)) ∈ lw_all := lw_g (lw_at lw_m3 229 rfl) rfl
theorem q828 : (Jvm.Cond.code ({ cls := "EdgeLetters$Board", name := "isBrokenAt", desc := "(I)Z" } : Jvm.MethodName) prog_4_method_14_code (4 : Nat) (Option.some Jvm.ClassFile.FieldType.boolean)) ∈ lw_all := lw_g (lw_at lw_m3 230 rfl) rfl
theorem q834 : (Jvm.Cond.instanceMethod ({ cls := "EdgeLetters$Board", name := "countByRows", desc := "(II)I" } : Jvm.MethodName)) ∈ lw_all := lw_g (lw_at lw_m3 236 rfl) rfl
theorem q835 : (Jvm.Cond.selects "EdgeLetters$Board" ({ cls := "EdgeLetters$Board", name := "countByRows", desc := "(II)I" } : Jvm.MethodName) ({ cls := "EdgeLetters$Board", name := "countByRows", desc := "(II)I" } : Jvm.MethodName)) ∈ lw_all := lw_g (lw_at lw_m3 237 rfl) rfl
theorem q836 : (Jvm.Cond.code ({ cls := "EdgeLetters$Board", name := "countByRows", desc := "(II)I" } : Jvm.MethodName) prog_4_method_36_code (7 : Nat) (Option.some Jvm.ClassFile.FieldType.int)) ∈ lw_all := lw_g (lw_at lw_m3 238 rfl) rfl
theorem q837 : (Jvm.Cond.methodLink "EdgeLetters$Board" (212 : Nat) ({ cls := "EdgeLetters$Board", name := "countWith", desc := "(II[I)I" } : Jvm.MethodName)) ∈ lw_all := lw_g (lw_at lw_m3 239 rfl) rfl
theorem q838 : (Jvm.Cond.privateMethod ({ cls := "EdgeLetters$Board", name := "countWith", desc := "(II[I)I" } : Jvm.MethodName)) ∈ lw_tbl := lw_at lw_m4 0 rfl
theorem q839 : (Jvm.Cond.instanceMethod ({ cls := "EdgeLetters$Board", name := "countWith", desc := "(II[I)I" } : Jvm.MethodName)) ∈ lw_all := lw_g (lw_at lw_m4 1 rfl) rfl
theorem q840 : (Jvm.Cond.code ({ cls := "EdgeLetters$Board", name := "countWith", desc := "(II[I)I" } : Jvm.MethodName) prog_4_method_37_code (6 : Nat) (Option.some Jvm.ClassFile.FieldType.int)) ∈ lw_all := lw_g (lw_at lw_m4 2 rfl) rfl
theorem q841 : (Jvm.Cond.methodLink "EdgeLetters$Board" (221 : Nat) ({ cls := "EdgeLetters$Board", name := "countByRows", desc := "(II)I" } : Jvm.MethodName)) ∈ lw_all := lw_g (lw_at lw_m4 3 rfl) rfl
theorem q842 : (Jvm.Cond.methodLink "EdgeLetters$Board" (216 : Nat) ({ cls := "java/lang/Math", name := "min", desc := "(II)I" } : Jvm.MethodName)) ∈ lw_all := lw_g (lw_at lw_m4 4 rfl) rfl
theorem q852 : (Jvm.Cond.instanceMethod ({ cls := "EdgeLetters$Board", name := "crossedOut", desc := "()I" } : Jvm.MethodName)) ∈ lw_all := lw_g (lw_at lw_m4 14 rfl) rfl
theorem q853 : (Jvm.Cond.selects "EdgeLetters$Board" ({ cls := "EdgeLetters$Board", name := "crossedOut", desc := "()I" } : Jvm.MethodName) ({ cls := "EdgeLetters$Board", name := "crossedOut", desc := "()I" } : Jvm.MethodName)) ∈ lw_all := lw_g (lw_at lw_m4 15 rfl) rfl
theorem q854 : (Jvm.Cond.code ({ cls := "EdgeLetters$Board", name := "crossedOut", desc := "()I" } : Jvm.MethodName) prog_4_method_32_code (3 : Nat) (Option.some Jvm.ClassFile.FieldType.int)) ∈ lw_all := lw_g (lw_at lw_m4 16 rfl) rfl
theorem q1520 : (Jvm.Cond.instanceMethod ({ cls := "EdgeLetters$Board", name := "arrangements", desc := "(I)I" } : Jvm.MethodName)) ∈ lw_all := lw_g (lw_at lw_m6 202 rfl) rfl
theorem q1521 : (Jvm.Cond.selects "EdgeLetters$Board" ({ cls := "EdgeLetters$Board", name := "arrangements", desc := "(I)I" } : Jvm.MethodName) ({ cls := "EdgeLetters$Board", name := "arrangements", desc := "(I)I" } : Jvm.MethodName)) ∈ lw_all := lw_g (lw_at lw_m6 203 rfl) rfl
theorem q1522 : (Jvm.Cond.code ({ cls := "EdgeLetters$Board", name := "arrangements", desc := "(I)I" } : Jvm.MethodName) prog_4_method_7_code (5 : Nat) (Option.some Jvm.ClassFile.FieldType.int)) ∈ lw_all := lw_g (lw_at lw_m6 204 rfl) rfl
theorem q1523 : (Jvm.Cond.methodLink "EdgeLetters$Board" (68 : Nat) ({ cls := "EdgeLetters$Arrangements", name := "iterator", desc := "()Ljava/util/Iterator;" } : Jvm.MethodName)) ∈ lw_all := lw_g (lw_at lw_m6 205 rfl) rfl
theorem q1540 : (Jvm.Cond.interfaceEntry "EdgeLetters$Board" (74 : Nat)) ∈ lw_tbl := lw_at lw_m6 222 rfl
theorem q1541 : (Jvm.Cond.methodLink "EdgeLetters$Board" (74 : Nat) ({ cls := "java/util/Iterator", name := "hasNext", desc := "()Z" } : Jvm.MethodName)) ∈ lw_all := lw_g (lw_at lw_m6 223 rfl) rfl
theorem q1552 : (Jvm.Cond.interfaceEntry "EdgeLetters$Board" (80 : Nat)) ∈ lw_tbl := lw_at lw_m6 234 rfl
theorem q1553 : (Jvm.Cond.methodLink "EdgeLetters$Board" (80 : Nat) ({ cls := "java/util/Iterator", name := "next", desc := "()Ljava/lang/Object;" } : Jvm.MethodName)) ∈ lw_all := lw_g (lw_at lw_m6 235 rfl) rfl
theorem q1568 : (Jvm.Cond.classLink "EdgeLetters$Board" (84 : Nat) "[I") ∈ lw_all := lw_g (lw_at lw_m7 10 rfl) rfl
theorem q1577 : (Jvm.Cond.instanceMethod ({ cls := "EdgeLetters$Board", name := "countFrom", desc := "(III[I)I" } : Jvm.MethodName)) ∈ lw_all := lw_g (lw_at lw_m7 19 rfl) rfl
theorem q1578 : (Jvm.Cond.selects "EdgeLetters$Board" ({ cls := "EdgeLetters$Board", name := "countFrom", desc := "(III[I)I" } : Jvm.MethodName) ({ cls := "EdgeLetters$Board", name := "countFrom", desc := "(III[I)I" } : Jvm.MethodName)) ∈ lw_all := lw_g (lw_at lw_m7 20 rfl) rfl
theorem q1579 : (Jvm.Cond.code ({ cls := "EdgeLetters$Board", name := "countFrom", desc := "(III[I)I" } : Jvm.MethodName) prog_4_method_11_code (11 : Nat) (Option.some Jvm.ClassFile.FieldType.int)) ∈ lw_all := lw_g (lw_at lw_m7 21 rfl) rfl
theorem q1580 : (Jvm.Cond.methodLink "EdgeLetters$Board" (107 : Nat) ({ cls := "EdgeLetters$Board", name := "countFrom", desc := "(III[I)I" } : Jvm.MethodName)) ∈ lw_all := lw_g (lw_at lw_m7 22 rfl) rfl
theorem q1604 : (Jvm.Cond.instanceMethod ({ cls := "EdgeLetters$Board", name := "reasonFor", desc := "(IILEdgeLetters$Board;)I" } : Jvm.MethodName)) ∈ lw_all := lw_g (lw_at lw_m7 46 rfl) rfl
theorem q1605 : (Jvm.Cond.selects "EdgeLetters$Board" ({ cls := "EdgeLetters$Board", name := "reasonFor", desc := "(IILEdgeLetters$Board;)I" } : Jvm.MethodName) ({ cls := "EdgeLetters$Board", name := "reasonFor", desc := "(IILEdgeLetters$Board;)I" } : Jvm.MethodName)) ∈ lw_all := lw_g (lw_at lw_m7 47 rfl) rfl
theorem q1606 : (Jvm.Cond.code ({ cls := "EdgeLetters$Board", name := "reasonFor", desc := "(IILEdgeLetters$Board;)I" } : Jvm.MethodName) prog_4_method_27_code (5 : Nat) (Option.some Jvm.ClassFile.FieldType.int)) ∈ lw_all := lw_g (lw_at lw_m7 48 rfl) rfl
theorem q2318 : (Jvm.Cond.castable "EdgeLetters$Board" "java/lang/Object") ∈ lw_tbl := lw_at lw_m10 40 rfl
theorem in_X5 : ∀ w ∈ wsX50, w ∈ lw_all := lw_in wsX50 [380, 382, 384] (by decide +kernel) (by decide +kernel)
/-! EdgeLetters$Arrangements$1 -/
set_option maxRecDepth 100000
def RX7 : String := "EdgeLetters$Arrangements$1"
def TX7 : u_T := fun k => match k with
  | 0 => ("EdgeLetters$Arrangements$1", "place", "I", false)
  | _ => ("EdgeLetters$Arrangements$1", "this$0", "LEdgeLetters$Arrangements;", true)
def tyX7 : Nat → FieldType := fun k => match k with
  | 0 => .int
  | _ => .object "EdgeLetters$Arrangements"
abbrev wsX70 : List Cond := u_ws RX7 TX7 2
theorem nmX7 : ∀ a, a < 2 → ∀ b, b < 2 → a ≠ b → (TX7 a).2.1 ≠ (TX7 b).2.1 := by decide +kernel
theorem tyX7_ok : ∀ k, k < 2 → parseFieldDescriptor (TX7 k).2.2.1 = some (tyX7 k) := by decide +kernel
abbrev cX7_init : ByteArray := prog_3_method_1_code
def yX7_init : MethodName := ⟨RX7, "<init>", "(LEdgeLetters$Arrangements;)V"⟩
def dkwX7_init_0 : List UInt8 := [42, 43, 181, 0, 1, 42, 183, 0, 7, 177]
abbrev dktX7_init_0 : List UInt8 := dkwX7_init_0 ++ []
theorem dksX7_init_0 : cX7_init.data.toList.drop 0 = dktX7_init_0 := by decide +kernel
theorem dX7_init_0 : decode cX7_init 0 = .ok (.aload_n 0, 1) := dk_42 (dk_at dksX7_init_0 0 rfl rfl)
theorem dX7_init_1 : decode cX7_init 1 = .ok (.aload_n 1, 1) := dk_43 (dk_at dksX7_init_0 1 rfl rfl)
theorem dX7_init_2 : decode cX7_init 2 = .ok (.putfield 1, 3) := dk_181 0 1 (dk_at dksX7_init_0 2 rfl rfl)
theorem dX7_init_5 : decode cX7_init 5 = .ok (.aload_n 0, 1) := dk_42 (dk_at dksX7_init_0 5 rfl rfl)
theorem dX7_init_6 : decode cX7_init 6 = .ok (.invokespecial 7, 3) := dk_183 0 7 (dk_at dksX7_init_0 6 rfl rfl)
theorem dX7_init_9 : decode cX7_init 9 = .ok (.return_, 1) := dk_177 (dk_at dksX7_init_0 9 rfl rfl)
abbrev cX7_hasNext : ByteArray := prog_3_method_2_code
def yX7_hasNext : MethodName := ⟨RX7, "hasNext", "()Z"⟩
def dkwX7_hasNext_1 : List UInt8 := [172]
abbrev dktX7_hasNext_1 : List UInt8 := dkwX7_hasNext_1 ++ []
def dkwX7_hasNext_0 : List UInt8 := [42, 180, 0, 13, 42, 180, 0, 1, 180, 0, 17, 185, 0, 23, 1, 0, 162, 0, 7, 4, 167, 0, 4, 3]
abbrev dktX7_hasNext_0 : List UInt8 := dkwX7_hasNext_0 ++ dktX7_hasNext_1
theorem dksX7_hasNext_0 : cX7_hasNext.data.toList.drop 0 = dktX7_hasNext_0 := by decide +kernel
theorem dksX7_hasNext_1 : cX7_hasNext.data.toList.drop 24 = dktX7_hasNext_1 := dk_seg dksX7_hasNext_0 24 rfl rfl
theorem dX7_hasNext_0 : decode cX7_hasNext 0 = .ok (.aload_n 0, 1) := dk_42 (dk_at dksX7_hasNext_0 0 rfl rfl)
theorem dX7_hasNext_1 : decode cX7_hasNext 1 = .ok (.getfield 13, 3) := dk_180 0 13 (dk_at dksX7_hasNext_0 1 rfl rfl)
theorem dX7_hasNext_4 : decode cX7_hasNext 4 = .ok (.aload_n 0, 1) := dk_42 (dk_at dksX7_hasNext_0 4 rfl rfl)
theorem dX7_hasNext_5 : decode cX7_hasNext 5 = .ok (.getfield 1, 3) := dk_180 0 1 (dk_at dksX7_hasNext_0 5 rfl rfl)
theorem dX7_hasNext_8 : decode cX7_hasNext 8 = .ok (.getfield 17, 3) := dk_180 0 17 (dk_at dksX7_hasNext_0 8 rfl rfl)
theorem dX7_hasNext_11 : decode cX7_hasNext 11 = .ok (.invokeinterface 23 1, 5) := by decide +kernel
theorem dX7_hasNext_16 : decode cX7_hasNext 16 = .ok (.if_icmp .ge 7, 3) := dk_162 0 7 (dk_at dksX7_hasNext_0 16 rfl rfl)
theorem dX7_hasNext_19 : decode cX7_hasNext 19 = .ok (.iconst 1, 1) := dk_4 (dk_at dksX7_hasNext_0 19 rfl rfl)
theorem dX7_hasNext_20 : decode cX7_hasNext 20 = .ok (.goto 4, 3) := dk_167 0 4 (dk_at dksX7_hasNext_0 20 rfl rfl)
theorem dX7_hasNext_23 : decode cX7_hasNext 23 = .ok (.iconst 0, 1) := dk_3 (dk_at dksX7_hasNext_0 23 rfl rfl)
theorem dX7_hasNext_24 : decode cX7_hasNext 24 = .ok (.ireturn, 1) := dk_172 (dk_at dksX7_hasNext_1 0 rfl rfl)
abbrev cX7_next : ByteArray := prog_3_method_4_code
def yX7_next : MethodName := ⟨RX7, "next", "()Ljava/lang/Object;"⟩
theorem dX7_next_0 : decode cX7_next 0 = .ok (.aload_n 0, 1) := by decide +kernel
theorem dX7_next_1 : decode cX7_next 1 = .ok (.invokevirtual 35, 3) := by decide +kernel
theorem dX7_next_4 : decode cX7_next 4 = .ok (.areturn, 1) := by decide +kernel
abbrev cX7_next_2 : ByteArray := prog_3_method_3_code
def yX7_next_2 : MethodName := ⟨RX7, "next", "()[I"⟩
def dkwX7_next_2_1 : List UInt8 := [185, 0, 29, 2, 0, 192, 0, 33, 176]
abbrev dktX7_next_2_1 : List UInt8 := dkwX7_next_2_1 ++ []
def dkwX7_next_2_0 : List UInt8 := [42, 89, 180, 0, 13, 4, 96, 181, 0, 13, 42, 180, 0, 1, 180, 0, 17, 42, 180, 0, 13, 4, 100]
abbrev dktX7_next_2_0 : List UInt8 := dkwX7_next_2_0 ++ dktX7_next_2_1
theorem dksX7_next_2_0 : cX7_next_2.data.toList.drop 0 = dktX7_next_2_0 := by decide +kernel
theorem dksX7_next_2_1 : cX7_next_2.data.toList.drop 23 = dktX7_next_2_1 := dk_seg dksX7_next_2_0 23 rfl rfl
theorem dX7_next_2_0 : decode cX7_next_2 0 = .ok (.aload_n 0, 1) := dk_42 (dk_at dksX7_next_2_0 0 rfl rfl)
theorem dX7_next_2_1 : decode cX7_next_2 1 = .ok (.dup, 1) := dk_89 (dk_at dksX7_next_2_0 1 rfl rfl)
theorem dX7_next_2_2 : decode cX7_next_2 2 = .ok (.getfield 13, 3) := dk_180 0 13 (dk_at dksX7_next_2_0 2 rfl rfl)
theorem dX7_next_2_5 : decode cX7_next_2 5 = .ok (.iconst 1, 1) := dk_4 (dk_at dksX7_next_2_0 5 rfl rfl)
theorem dX7_next_2_6 : decode cX7_next_2 6 = .ok (.iadd, 1) := dk_96 (dk_at dksX7_next_2_0 6 rfl rfl)
theorem dX7_next_2_7 : decode cX7_next_2 7 = .ok (.putfield 13, 3) := dk_181 0 13 (dk_at dksX7_next_2_0 7 rfl rfl)
theorem dX7_next_2_10 : decode cX7_next_2 10 = .ok (.aload_n 0, 1) := dk_42 (dk_at dksX7_next_2_0 10 rfl rfl)
theorem dX7_next_2_11 : decode cX7_next_2 11 = .ok (.getfield 1, 3) := dk_180 0 1 (dk_at dksX7_next_2_0 11 rfl rfl)
theorem dX7_next_2_14 : decode cX7_next_2 14 = .ok (.getfield 17, 3) := dk_180 0 17 (dk_at dksX7_next_2_0 14 rfl rfl)
theorem dX7_next_2_17 : decode cX7_next_2 17 = .ok (.aload_n 0, 1) := dk_42 (dk_at dksX7_next_2_0 17 rfl rfl)
theorem dX7_next_2_18 : decode cX7_next_2 18 = .ok (.getfield 13, 3) := dk_180 0 13 (dk_at dksX7_next_2_0 18 rfl rfl)
theorem dX7_next_2_21 : decode cX7_next_2 21 = .ok (.iconst 1, 1) := dk_4 (dk_at dksX7_next_2_0 21 rfl rfl)
theorem dX7_next_2_22 : decode cX7_next_2 22 = .ok (.isub, 1) := dk_100 (dk_at dksX7_next_2_0 22 rfl rfl)
theorem dX7_next_2_23 : decode cX7_next_2 23 = .ok (.invokeinterface 29 2, 5) := by decide +kernel
theorem dX7_next_2_28 : decode cX7_next_2 28 = .ok (.checkcast 33, 3) := dk_192 0 33 (dk_at dksX7_next_2_1 5 rfl rfl)
theorem dX7_next_2_31 : decode cX7_next_2 31 = .ok (.areturn, 1) := dk_176 (dk_at dksX7_next_2_1 8 rfl rfl)
theorem q147 : (Jvm.Cond.initialized "EdgeLetters$Arrangements$1") ∈ lw_all := lw_g (lw_at lw_m1 29 rfl) rfl
theorem q263 : (Jvm.Cond.selects "EdgeLetters$Arrangements$1" ({ cls := "java/lang/Object", name := "getClass", desc := "()Ljava/lang/Class;" } : Jvm.MethodName) ({ cls := "java/lang/Object", name := "getClass", desc := "()Ljava/lang/Class;" } : Jvm.MethodName)) ∈ lw_all := lw_g (lw_at lw_m1 145 rfl) rfl
theorem q301 : (Jvm.Cond.fieldLinkNest "EdgeLetters$Arrangements$1" (17 : Nat) "EdgeLetters$Arrangements" "all" "Ljava/util/List;" "EdgeLetters") ∈ lw_tbl := lw_at lw_m1 183 rfl
theorem q1528 : (Jvm.Cond.instantiable "EdgeLetters$Arrangements$1" (2 : Nat)) ∈ lw_all := lw_g (lw_at lw_m6 210 rfl) rfl
theorem q1530 : (Jvm.Cond.instanceMethod ({ cls := "EdgeLetters$Arrangements$1", name := "<init>", desc := "(LEdgeLetters$Arrangements;)V" } : Jvm.MethodName)) ∈ lw_all := lw_g (lw_at lw_m6 212 rfl) rfl
theorem q1531 : (Jvm.Cond.code ({ cls := "EdgeLetters$Arrangements$1", name := "<init>", desc := "(LEdgeLetters$Arrangements;)V" } : Jvm.MethodName) prog_3_method_1_code (2 : Nat) (Option.none : Option Jvm.ClassFile.FieldType)) ∈ lw_all := lw_g (lw_at lw_m6 213 rfl) rfl
theorem q1532 : (Jvm.Cond.methodLink "EdgeLetters$Arrangements$1" (7 : Nat) ({ cls := "java/lang/Object", name := "<init>", desc := "()V" } : Jvm.MethodName)) ∈ lw_all := lw_g (lw_at lw_m6 214 rfl) rfl
theorem q1533 : (Jvm.Cond.fieldLink "EdgeLetters$Arrangements$1" (13 : Nat) "EdgeLetters$Arrangements$1" "place" "I") ∈ lw_all := lw_g (lw_at lw_m6 215 rfl) rfl
theorem q1534 : (Jvm.Cond.fieldLink "EdgeLetters$Arrangements$1" (1 : Nat) "EdgeLetters$Arrangements$1" "this$0" "LEdgeLetters$Arrangements;") ∈ lw_all := lw_g (lw_at lw_m6 216 rfl) rfl
theorem q1535 : (Jvm.Cond.lays "EdgeLetters$Arrangements$1" "EdgeLetters$Arrangements$1" "place" "I") ∈ lw_all := lw_g (lw_at lw_m6 217 rfl) rfl
theorem q1536 : (Jvm.Cond.soleField "EdgeLetters$Arrangements$1" "place") ∈ lw_all := lw_g (lw_at lw_m6 218 rfl) rfl
theorem q1537 : (Jvm.Cond.laysFinal "EdgeLetters$Arrangements$1" "EdgeLetters$Arrangements$1" "this$0" "LEdgeLetters$Arrangements;") ∈ lw_all := lw_g (lw_at lw_m6 219 rfl) rfl
theorem q1538 : (Jvm.Cond.soleField "EdgeLetters$Arrangements$1" "this$0") ∈ lw_all := lw_g (lw_at lw_m6 220 rfl) rfl
theorem q1539 : (Jvm.Cond.superclass "EdgeLetters$Arrangements$1" "java/lang/Object") ∈ lw_all := lw_g (lw_at lw_m6 221 rfl) rfl
theorem q1544 : (Jvm.Cond.castable "EdgeLetters$Arrangements$1" "java/util/Iterator") ∈ lw_tbl := lw_at lw_m6 226 rfl
theorem q1545 : (Jvm.Cond.selects "EdgeLetters$Arrangements$1" ({ cls := "java/util/Iterator", name := "hasNext", desc := "()Z" } : Jvm.MethodName) ({ cls := "EdgeLetters$Arrangements$1", name := "hasNext", desc := "()Z" } : Jvm.MethodName)) ∈ lw_all := lw_g (lw_at lw_m6 227 rfl) rfl
theorem q1546 : (Jvm.Cond.unhidden "EdgeLetters$Arrangements$1" "hasNext" "()Z") ∈ lw_tbl := lw_at lw_m6 228 rfl
theorem q1547 : (Jvm.Cond.instanceMethod ({ cls := "EdgeLetters$Arrangements$1", name := "hasNext", desc := "()Z" } : Jvm.MethodName)) ∈ lw_all := lw_g (lw_at lw_m6 229 rfl) rfl
theorem q1548 : (Jvm.Cond.publicMethod ({ cls := "EdgeLetters$Arrangements$1", name := "hasNext", desc := "()Z" } : Jvm.MethodName)) ∈ lw_tbl := lw_at lw_m6 230 rfl
theorem q1549 : (Jvm.Cond.code ({ cls := "EdgeLetters$Arrangements$1", name := "hasNext", desc := "()Z" } : Jvm.MethodName) prog_3_method_2_code (1 : Nat) (Option.some Jvm.ClassFile.FieldType.boolean)) ∈ lw_all := lw_g (lw_at lw_m6 231 rfl) rfl
theorem q1550 : (Jvm.Cond.interfaceEntry "EdgeLetters$Arrangements$1" (23 : Nat)) ∈ lw_tbl := lw_at lw_m6 232 rfl
theorem q1551 : (Jvm.Cond.methodLink "EdgeLetters$Arrangements$1" (23 : Nat) ({ cls := "java/util/List", name := "size", desc := "()I" } : Jvm.MethodName)) ∈ lw_all := lw_g (lw_at lw_m6 233 rfl) rfl
theorem q1556 : (Jvm.Cond.selects "EdgeLetters$Arrangements$1" ({ cls := "java/util/Iterator", name := "next", desc := "()Ljava/lang/Object;" } : Jvm.MethodName) ({ cls := "EdgeLetters$Arrangements$1", name := "next", desc := "()Ljava/lang/Object;" } : Jvm.MethodName)) ∈ lw_all := lw_g (lw_at lw_m6 238 rfl) rfl
theorem q1557 : (Jvm.Cond.unhidden "EdgeLetters$Arrangements$1" "next" "()Ljava/lang/Object;") ∈ lw_tbl := lw_at lw_m6 239 rfl
theorem q1558 : (Jvm.Cond.instanceMethod ({ cls := "EdgeLetters$Arrangements$1", name := "next", desc := "()Ljava/lang/Object;" } : Jvm.MethodName)) ∈ lw_all := lw_g (lw_at lw_m7 0 rfl) rfl
theorem q1559 : (Jvm.Cond.publicMethod ({ cls := "EdgeLetters$Arrangements$1", name := "next", desc := "()Ljava/lang/Object;" } : Jvm.MethodName)) ∈ lw_tbl := lw_at lw_m7 1 rfl
theorem q1560 : (Jvm.Cond.code ({ cls := "EdgeLetters$Arrangements$1", name := "next", desc := "()Ljava/lang/Object;" } : Jvm.MethodName) prog_3_method_4_code (1 : Nat) (Option.some (Jvm.ClassFile.FieldType.object "java/lang/Object"))) ∈ lw_all := lw_g (lw_at lw_m7 2 rfl) rfl
theorem q1561 : (Jvm.Cond.methodLink "EdgeLetters$Arrangements$1" (35 : Nat) ({ cls := "EdgeLetters$Arrangements$1", name := "next", desc := "()[I" } : Jvm.MethodName)) ∈ lw_all := lw_g (lw_at lw_m7 3 rfl) rfl
theorem q1562 : (Jvm.Cond.instanceMethod ({ cls := "EdgeLetters$Arrangements$1", name := "next", desc := "()[I" } : Jvm.MethodName)) ∈ lw_all := lw_g (lw_at lw_m7 4 rfl) rfl
theorem q1563 : (Jvm.Cond.selects "EdgeLetters$Arrangements$1" ({ cls := "EdgeLetters$Arrangements$1", name := "next", desc := "()[I" } : Jvm.MethodName) ({ cls := "EdgeLetters$Arrangements$1", name := "next", desc := "()[I" } : Jvm.MethodName)) ∈ lw_all := lw_g (lw_at lw_m7 5 rfl) rfl
theorem q1564 : (Jvm.Cond.code ({ cls := "EdgeLetters$Arrangements$1", name := "next", desc := "()[I" } : Jvm.MethodName) prog_3_method_3_code (1 : Nat) (Option.some (Jvm.ClassFile.FieldType.array Jvm.ClassFile.FieldType.int))) ∈ lw_all := lw_g (lw_at lw_m7 6 rfl) rfl
theorem q1565 : (Jvm.Cond.interfaceEntry "EdgeLetters$Arrangements$1" (29 : Nat)) ∈ lw_tbl := lw_at lw_m7 7 rfl
theorem q1566 : (Jvm.Cond.methodLink "EdgeLetters$Arrangements$1" (29 : Nat) ({ cls := "java/util/List", name := "get", desc := "(I)Ljava/lang/Object;" } : Jvm.MethodName)) ∈ lw_all := lw_g (lw_at lw_m7 8 rfl) rfl
theorem q1567 : (Jvm.Cond.classLink "EdgeLetters$Arrangements$1" (33 : Nat) "[I") ∈ lw_all := lw_g (lw_at lw_m7 9 rfl) rfl
theorem q2325 : (Jvm.Cond.castable "EdgeLetters$Arrangements$1" "java/lang/Object") ∈ lw_tbl := lw_at lw_m10 47 rfl
theorem in_X7 : ∀ w ∈ wsX70, w ∈ lw_all := lw_in wsX70 [1535, 1537] (by decide +kernel) (by decide +kernel)
/-! EdgeLetters$Found -/
set_option maxRecDepth 100000
def RX8 : String := "EdgeLetters$Found"
def TX8 : u_T := fun k => match k with
  | 0 => ("EdgeLetters$Found", "wanted", "I", true)
  | 1 => ("EdgeLetters$Found", "first", "[I", true)
  | 2 => ("EdgeLetters$Found", "count", "I", false)
  | _ => ("EdgeLetters$Found", "same", "I", false)
def tyX8 : Nat → FieldType := fun k => match k with
  | 0 => .int
  | 1 => .array .int
  | 2 => .int
  | _ => .int
abbrev wsX80 : List Cond := u_ws RX8 TX8 4
theorem nmX8 : ∀ a, a < 4 → ∀ b, b < 4 → a ≠ b → (TX8 a).2.1 ≠ (TX8 b).2.1 := by decide +kernel
theorem tyX8_ok : ∀ k, k < 4 → parseFieldDescriptor (TX8 k).2.2.1 = some (tyX8 k) := by decide +kernel
abbrev cX8_init : ByteArray := prog_7_method_1_code
def yX8_init : MethodName := ⟨RX8, "<init>", "(I)V"⟩
def dkwX8_init_0 : List UInt8 := [42, 183, 0, 3, 42, 16, 25, 188, 10, 181, 0, 9, 42, 18, 15, 181, 0, 16, 42, 27, 181, 0, 20, 177]
abbrev dktX8_init_0 : List UInt8 := dkwX8_init_0 ++ []
theorem dksX8_init_0 : cX8_init.data.toList.drop 0 = dktX8_init_0 := by decide +kernel
theorem dX8_init_0 : decode cX8_init 0 = .ok (.aload_n 0, 1) := dk_42 (dk_at dksX8_init_0 0 rfl rfl)
theorem dX8_init_1 : decode cX8_init 1 = .ok (.invokespecial 3, 3) := dk_183 0 3 (dk_at dksX8_init_0 1 rfl rfl)
theorem dX8_init_4 : decode cX8_init 4 = .ok (.aload_n 0, 1) := dk_42 (dk_at dksX8_init_0 4 rfl rfl)
theorem dX8_init_5 : decode cX8_init 5 = .ok (.bipush 25, 2) := dk_16 25 (dk_at dksX8_init_0 5 rfl rfl)
theorem dX8_init_7 : decode cX8_init 7 = .ok (.newarray .int, 2) := dk_188_10 (dk_at dksX8_init_0 7 rfl rfl)
theorem dX8_init_9 : decode cX8_init 9 = .ok (.putfield 9, 3) := dk_181 0 9 (dk_at dksX8_init_0 9 rfl rfl)
theorem dX8_init_12 : decode cX8_init 12 = .ok (.aload_n 0, 1) := dk_42 (dk_at dksX8_init_0 12 rfl rfl)
theorem dX8_init_13 : decode cX8_init 13 = .ok (.ldc 15, 2) := dk_18 15 (dk_at dksX8_init_0 13 rfl rfl)
theorem dX8_init_15 : decode cX8_init 15 = .ok (.putfield 16, 3) := dk_181 0 16 (dk_at dksX8_init_0 15 rfl rfl)
theorem dX8_init_18 : decode cX8_init 18 = .ok (.aload_n 0, 1) := dk_42 (dk_at dksX8_init_0 18 rfl rfl)
theorem dX8_init_19 : decode cX8_init 19 = .ok (.iload_n 1, 1) := dk_27 (dk_at dksX8_init_0 19 rfl rfl)
theorem dX8_init_20 : decode cX8_init 20 = .ok (.putfield 20, 3) := dk_181 0 20 (dk_at dksX8_init_0 20 rfl rfl)
theorem dX8_init_23 : decode cX8_init 23 = .ok (.return_, 1) := dk_177 (dk_at dksX8_init_0 23 rfl rfl)
abbrev cX8_add : ByteArray := prog_7_method_2_code
def yX8_add : MethodName := ⟨RX8, "add", "([I)V"⟩
def dkwX8_add_3 : List UInt8 := [167, 255, 217, 177]
abbrev dktX8_add_3 : List UInt8 := dkwX8_add_3 ++ []
def dkwX8_add_2 : List UInt8 := [180, 0, 9, 28, 46, 160, 0, 7, 2, 167, 0, 8, 4, 28, 120, 2, 130, 126, 181, 0, 16, 132, 2, 1]
abbrev dktX8_add_2 : List UInt8 := dkwX8_add_2 ++ dktX8_add_3
def dkwX8_add_1 : List UInt8 := [4, 96, 181, 0, 23, 3, 61, 28, 16, 25, 162, 0, 39, 42, 89, 180, 0, 16, 43, 28, 46, 42]
abbrev dktX8_add_1 : List UInt8 := dkwX8_add_1 ++ dktX8_add_2
def dkwX8_add_0 : List UInt8 := [42, 180, 0, 23, 154, 0, 15, 43, 3, 42, 180, 0, 9, 3, 16, 25, 184, 0, 26, 42, 89, 180, 0, 23]
abbrev dktX8_add_0 : List UInt8 := dkwX8_add_0 ++ dktX8_add_1
theorem dksX8_add_0 : cX8_add.data.toList.drop 0 = dktX8_add_0 := by decide +kernel
theorem dksX8_add_1 : cX8_add.data.toList.drop 24 = dktX8_add_1 := dk_seg dksX8_add_0 24 rfl rfl
theorem dksX8_add_2 : cX8_add.data.toList.drop 46 = dktX8_add_2 := dk_seg dksX8_add_1 22 rfl rfl
theorem dksX8_add_3 : cX8_add.data.toList.drop 70 = dktX8_add_3 := dk_seg dksX8_add_2 24 rfl rfl
theorem dX8_add_0 : decode cX8_add 0 = .ok (.aload_n 0, 1) := dk_42 (dk_at dksX8_add_0 0 rfl rfl)
theorem dX8_add_1 : decode cX8_add 1 = .ok (.getfield 23, 3) := dk_180 0 23 (dk_at dksX8_add_0 1 rfl rfl)
theorem dX8_add_4 : decode cX8_add 4 = .ok (.ifCond .ne 15, 3) := dk_154 0 15 (dk_at dksX8_add_0 4 rfl rfl)
theorem dX8_add_7 : decode cX8_add 7 = .ok (.aload_n 1, 1) := dk_43 (dk_at dksX8_add_0 7 rfl rfl)
theorem dX8_add_8 : decode cX8_add 8 = .ok (.iconst 0, 1) := dk_3 (dk_at dksX8_add_0 8 rfl rfl)
theorem dX8_add_9 : decode cX8_add 9 = .ok (.aload_n 0, 1) := dk_42 (dk_at dksX8_add_0 9 rfl rfl)
theorem dX8_add_10 : decode cX8_add 10 = .ok (.getfield 9, 3) := dk_180 0 9 (dk_at dksX8_add_0 10 rfl rfl)
theorem dX8_add_13 : decode cX8_add 13 = .ok (.iconst 0, 1) := dk_3 (dk_at dksX8_add_0 13 rfl rfl)
theorem dX8_add_14 : decode cX8_add 14 = .ok (.bipush 25, 2) := dk_16 25 (dk_at dksX8_add_0 14 rfl rfl)
theorem dX8_add_16 : decode cX8_add 16 = .ok (.invokestatic 26, 3) := dk_184 0 26 (dk_at dksX8_add_0 16 rfl rfl)
theorem dX8_add_19 : decode cX8_add 19 = .ok (.aload_n 0, 1) := dk_42 (dk_at dksX8_add_0 19 rfl rfl)
theorem dX8_add_20 : decode cX8_add 20 = .ok (.dup, 1) := dk_89 (dk_at dksX8_add_0 20 rfl rfl)
theorem dX8_add_21 : decode cX8_add 21 = .ok (.getfield 23, 3) := dk_180 0 23 (dk_at dksX8_add_0 21 rfl rfl)
theorem dX8_add_24 : decode cX8_add 24 = .ok (.iconst 1, 1) := dk_4 (dk_at dksX8_add_1 0 rfl rfl)
theorem dX8_add_25 : decode cX8_add 25 = .ok (.iadd, 1) := dk_96 (dk_at dksX8_add_1 1 rfl rfl)
theorem dX8_add_26 : decode cX8_add 26 = .ok (.putfield 23, 3) := dk_181 0 23 (dk_at dksX8_add_1 2 rfl rfl)
theorem dX8_add_29 : decode cX8_add 29 = .ok (.iconst 0, 1) := dk_3 (dk_at dksX8_add_1 5 rfl rfl)
theorem dX8_add_30 : decode cX8_add 30 = .ok (.istore_n 2, 1) := dk_61 (dk_at dksX8_add_1 6 rfl rfl)
theorem dX8_add_31 : decode cX8_add 31 = .ok (.iload_n 2, 1) := dk_28 (dk_at dksX8_add_1 7 rfl rfl)
theorem dX8_add_32 : decode cX8_add 32 = .ok (.bipush 25, 2) := dk_16 25 (dk_at dksX8_add_1 8 rfl rfl)
theorem dX8_add_34 : decode cX8_add 34 = .ok (.if_icmp .ge 39, 3) := dk_162 0 39 (dk_at dksX8_add_1 10 rfl rfl)
theorem dX8_add_37 : decode cX8_add 37 = .ok (.aload_n 0, 1) := dk_42 (dk_at dksX8_add_1 13 rfl rfl)
theorem dX8_add_38 : decode cX8_add 38 = .ok (.dup, 1) := dk_89 (dk_at dksX8_add_1 14 rfl rfl)
theorem dX8_add_39 : decode cX8_add 39 = .ok (.getfield 16, 3) := dk_180 0 16 (dk_at dksX8_add_1 15 rfl rfl)
theorem dX8_add_42 : decode cX8_add 42 = .ok (.aload_n 1, 1) := dk_43 (dk_at dksX8_add_1 18 rfl rfl)
theorem dX8_add_43 : decode cX8_add 43 = .ok (.iload_n 2, 1) := dk_28 (dk_at dksX8_add_1 19 rfl rfl)
theorem dX8_add_44 : decode cX8_add 44 = .ok (.iaload, 1) := dk_46 (dk_at dksX8_add_1 20 rfl rfl)
theorem dX8_add_45 : decode cX8_add 45 = .ok (.aload_n 0, 1) := dk_42 (dk_at dksX8_add_1 21 rfl rfl)
theorem dX8_add_46 : decode cX8_add 46 = .ok (.getfield 9, 3) := dk_180 0 9 (dk_at dksX8_add_2 0 rfl rfl)
theorem dX8_add_49 : decode cX8_add 49 = .ok (.iload_n 2, 1) := dk_28 (dk_at dksX8_add_2 3 rfl rfl)
theorem dX8_add_50 : decode cX8_add 50 = .ok (.iaload, 1) := dk_46 (dk_at dksX8_add_2 4 rfl rfl)
theorem dX8_add_51 : decode cX8_add 51 = .ok (.if_icmp .ne 7, 3) := dk_160 0 7 (dk_at dksX8_add_2 5 rfl rfl)
theorem dX8_add_54 : decode cX8_add 54 = .ok (.iconst (-1), 1) := dk_2 (dk_at dksX8_add_2 8 rfl rfl)
theorem dX8_add_55 : decode cX8_add 55 = .ok (.goto 8, 3) := dk_167 0 8 (dk_at dksX8_add_2 9 rfl rfl)
theorem dX8_add_58 : decode cX8_add 58 = .ok (.iconst 1, 1) := dk_4 (dk_at dksX8_add_2 12 rfl rfl)
theorem dX8_add_59 : decode cX8_add 59 = .ok (.iload_n 2, 1) := dk_28 (dk_at dksX8_add_2 13 rfl rfl)
theorem dX8_add_60 : decode cX8_add 60 = .ok (.ishl, 1) := dk_120 (dk_at dksX8_add_2 14 rfl rfl)
theorem dX8_add_61 : decode cX8_add 61 = .ok (.iconst (-1), 1) := dk_2 (dk_at dksX8_add_2 15 rfl rfl)
theorem dX8_add_62 : decode cX8_add 62 = .ok (.ixor, 1) := dk_130 (dk_at dksX8_add_2 16 rfl rfl)
theorem dX8_add_63 : decode cX8_add 63 = .ok (.iand, 1) := dk_126 (dk_at dksX8_add_2 17 rfl rfl)
theorem dX8_add_64 : decode cX8_add 64 = .ok (.putfield 16, 3) := dk_181 0 16 (dk_at dksX8_add_2 18 rfl rfl)
theorem dX8_add_67 : decode cX8_add 67 = .ok (.iinc 2 1, 3) := dk_132 2 1 (dk_at dksX8_add_2 21 rfl rfl)
theorem dX8_add_70 : decode cX8_add 70 = .ok (.goto (-39), 3) := dk_167 255 217 (dk_at dksX8_add_3 0 rfl rfl)
theorem dX8_add_73 : decode cX8_add 73 = .ok (.return_, 1) := dk_177 (dk_at dksX8_add_3 3 rfl rfl)
theorem q148 : (Jvm.Cond.initialized "EdgeLetters$Found") ∈ lw_all := lw_g (lw_at lw_m1 30 rfl) rfl
theorem q267 : (Jvm.Cond.selects "EdgeLetters$Found" ({ cls := "java/lang/Object", name := "getClass", desc := "()Ljava/lang/Class;" } : Jvm.MethodName) ({ cls := "java/lang/Object", name := "getClass", desc := "()Ljava/lang/Class;" } : Jvm.MethodName)) ∈ lw_all := lw_g (lw_at lw_m1 149 rfl) rfl
theorem q785 : (Jvm.Cond.instantiable "EdgeLetters$Found" (4 : Nat)) ∈ lw_all := lw_g (lw_at lw_m3 187 rfl) rfl
theorem q787 : (Jvm.Cond.instanceMethod ({ cls := "EdgeLetters$Found", name := "<init>", desc := "(I)V" } : Jvm.MethodName)) ∈ lw_all := lw_g (lw_at lw_m3 189 rfl) rfl
theorem q788 : (Jvm.Cond.code ({ cls := "EdgeLetters$Found", name := "<init>", desc := "(I)V" } : Jvm.MethodName) prog_7_method_1_code (2 : Nat) (Option.none : Option Jvm.ClassFile.FieldType)) ∈ lw_all := lw_g (lw_at lw_m3 190 rfl) rfl
theorem q789 : (Jvm.Cond.methodLink "EdgeLetters$Found" (3 : Nat) ({ cls := "java/lang/Object", name := "<init>", desc := "()V" } : Jvm.MethodName)) ∈ lw_all := lw_g (lw_at lw_m3 191 rfl) rfl
theorem q790 : (Jvm.Cond.constant "EdgeLetters$Found" (15 : Nat) (33554431 : Int32)) ∈ lw_all := lw_g (lw_at lw_m3 192 rfl) rfl
theorem q791 : (Jvm.Cond.fieldLink "EdgeLetters$Found" (20 : Nat) "EdgeLetters$Found" "wanted" "I") ∈ lw_all := lw_g (lw_at lw_m3 193 rfl) rfl
theorem q793 : (Jvm.Cond.fieldLink "EdgeLetters$Found" (9 : Nat) "EdgeLetters$Found" "first" "[I") ∈ lw_all := lw_g (lw_at lw_m3 195 rfl) rfl
theorem q795 : (Jvm.Cond.fieldLink "EdgeLetters$Found" (23 : Nat) "EdgeLetters$Found" "count" "I") ∈ lw_all := lw_g (lw_at lw_m3 197 rfl) rfl
theorem q798 : (Jvm.Cond.fieldLink "EdgeLetters$Found" (16 : Nat) "EdgeLetters$Found" "same" "I") ∈ lw_all := lw_g (lw_at lw_m3 200 rfl) rfl
theorem q800 : (Jvm.Cond.laysFinal "EdgeLetters$Found" "EdgeLetters$Found" "wanted" "I") ∈ lw_all := lw_g (lw_at lw_m3 202 rfl) rfl
theorem q801 : (Jvm.Cond.soleField "EdgeLetters$Found" "wanted") ∈ lw_all := lw_g (lw_at lw_m3 203 rfl) rfl
theorem q802 : (Jvm.Cond.laysFinal "EdgeLetters$Found" "EdgeLetters$Found" "first" "[I") ∈ lw_all := lw_g (lw_at lw_m3 204 rfl) rfl
theorem q803 : (Jvm.Cond.soleField "EdgeLetters$Found" "first") ∈ lw_all := lw_g (lw_at lw_m3 205 rfl) rfl
theorem q804 : (Jvm.Cond.lays "EdgeLetters$Found" "EdgeLetters$Found" "count" "I") ∈ lw_all := lw_g (lw_at lw_m3 206 rfl) rfl
theorem q805 : (Jvm.Cond.soleField "EdgeLetters$Found" "count") ∈ lw_all := lw_g (lw_at lw_m3 207 rfl) rfl
theorem q806 : (Jvm.Cond.lays "EdgeLetters$Found" "EdgeLetters$Found" "same" "I") ∈ lw_all := lw_g (lw_at lw_m3 208 rfl) rfl
theorem q807 : (Jvm.Cond.soleField "EdgeLetters$Found" "same") ∈ lw_all := lw_g (lw_at lw_m3 209 rfl) rfl
theorem q808 : (Jvm.Cond.superclass "EdgeLetters$Found" "java/lang/Object") ∈ lw_all := lw_g (lw_at lw_m3 210 rfl) rfl
theorem q818 : (Jvm.Cond.instanceMethod ({ cls := "EdgeLetters$Found", name := "add", desc := "([I)V" } : Jvm.MethodName)) ∈ lw_all := lw_g (lw_at lw_m3 220 rfl) rfl
theorem q819 : (Jvm.Cond.selects "EdgeLetters$Found" ({ cls := "EdgeLetters$Found", name := "add", desc := "([I)V" } : Jvm.MethodName) ({ cls := "EdgeLetters$Found", name := "add", desc := "([I)V" } : Jvm.MethodName)) ∈ lw_all := lw_g (lw_at lw_m3 221 rfl) rfl
theorem q820 : (Jvm.Cond.code ({ cls := "EdgeLetters$Found", name := "add", desc := "([I)V" } : Jvm.MethodName) prog_7_method_2_code (3 : Nat) (Option.none : Option Jvm.ClassFile.FieldType)) ∈ lw_all := lw_g (lw_at lw_m3 222 rfl) rfl
theorem q821 : (Jvm.Cond.methodLink "EdgeLetters$Found" (26 : Nat) ({ cls := "java/lang/System", name := "arraycopy", desc := "(Ljava/lang/Object;ILjava/lang/Object;II)V" } : Jvm.MethodName)) ∈ lw_all := lw_g (lw_at lw_m3 223 rfl) rfl
theorem q2326 : (Jvm.Cond.castable "EdgeLetters$Found" "java/lang/Object") ∈ lw_tbl := lw_at lw_m10 48 rfl
theorem in_X8 : ∀ w ∈ wsX80, w ∈ lw_all := lw_in wsX80 [800, 802, 804, 806] (by decide +kernel) (by decide +kernel)
/-! EdgeLetters$CommandReader -/
set_option maxRecDepth 100000
def RX9 : String := "EdgeLetters$CommandReader"
def TX9 : u_T := fun k => match k with
  | 0 => ("EdgeLetters$CommandReader", "commands", "Ljava/util/List;", true)
  | 1 => ("EdgeLetters$CommandReader", "index", "I", false)
  | 2 => ("EdgeLetters$CommandReader", "isWrong", "Z", false)
  | _ => ("EdgeLetters$CommandReader", "this$0", "LEdgeLetters;", true)
def tyX9 : Nat → FieldType := fun k => match k with
  | 0 => .object "java/util/List"
  | 1 => .int
  | 2 => .boolean
  | _ => .object "EdgeLetters"
abbrev wsX90 : List Cond := u_ws RX9 TX9 4
theorem nmX9 : ∀ a, a < 4 → ∀ b, b < 4 → a ≠ b → (TX9 a).2.1 ≠ (TX9 b).2.1 := by decide +kernel
theorem tyX9_ok : ∀ k, k < 4 → parseFieldDescriptor (TX9 k).2.2.1 = some (tyX9 k) := by decide +kernel
abbrev cX9_init : ByteArray := prog_5_method_1_code
def yX9_init : MethodName := ⟨RX9, "<init>", "(LEdgeLetters;)V"⟩
def dkwX9_init_2 : List UInt8 := [182, 0, 43, 42, 182, 0, 22, 167, 255, 225, 177]
abbrev dktX9_init_2 : List UInt8 := dkwX9_init_2 ++ []
def dkwX9_init_1 : List UInt8 := [42, 180, 0, 25, 154, 0, 30, 42, 180, 0, 29, 43, 180, 0, 33, 182, 0, 37, 162, 0, 16, 42, 16, 59]
abbrev dktX9_init_1 : List UInt8 := dkwX9_init_1 ++ dktX9_init_2
def dkwX9_init_0 : List UInt8 := [42, 43, 181, 0, 3, 42, 183, 0, 9, 42, 187, 0, 15, 89, 183, 0, 17, 181, 0, 18, 42, 182, 0, 22]
abbrev dktX9_init_0 : List UInt8 := dkwX9_init_0 ++ dktX9_init_1
theorem dksX9_init_0 : cX9_init.data.toList.drop 0 = dktX9_init_0 := by decide +kernel
theorem dksX9_init_1 : cX9_init.data.toList.drop 24 = dktX9_init_1 := dk_seg dksX9_init_0 24 rfl rfl
theorem dksX9_init_2 : cX9_init.data.toList.drop 48 = dktX9_init_2 := dk_seg dksX9_init_1 24 rfl rfl
theorem dX9_init_0 : decode cX9_init 0 = .ok (.aload_n 0, 1) := dk_42 (dk_at dksX9_init_0 0 rfl rfl)
theorem dX9_init_1 : decode cX9_init 1 = .ok (.aload_n 1, 1) := dk_43 (dk_at dksX9_init_0 1 rfl rfl)
theorem dX9_init_2 : decode cX9_init 2 = .ok (.putfield 3, 3) := dk_181 0 3 (dk_at dksX9_init_0 2 rfl rfl)
theorem dX9_init_5 : decode cX9_init 5 = .ok (.aload_n 0, 1) := dk_42 (dk_at dksX9_init_0 5 rfl rfl)
theorem dX9_init_6 : decode cX9_init 6 = .ok (.invokespecial 9, 3) := dk_183 0 9 (dk_at dksX9_init_0 6 rfl rfl)
theorem dX9_init_9 : decode cX9_init 9 = .ok (.aload_n 0, 1) := dk_42 (dk_at dksX9_init_0 9 rfl rfl)
theorem dX9_init_10 : decode cX9_init 10 = .ok (.new 15, 3) := dk_187 0 15 (dk_at dksX9_init_0 10 rfl rfl)
theorem dX9_init_13 : decode cX9_init 13 = .ok (.dup, 1) := dk_89 (dk_at dksX9_init_0 13 rfl rfl)
theorem dX9_init_14 : decode cX9_init 14 = .ok (.invokespecial 17, 3) := dk_183 0 17 (dk_at dksX9_init_0 14 rfl rfl)
theorem dX9_init_17 : decode cX9_init 17 = .ok (.putfield 18, 3) := dk_181 0 18 (dk_at dksX9_init_0 17 rfl rfl)
theorem dX9_init_20 : decode cX9_init 20 = .ok (.aload_n 0, 1) := dk_42 (dk_at dksX9_init_0 20 rfl rfl)
theorem dX9_init_21 : decode cX9_init 21 = .ok (.invokevirtual 22, 3) := dk_182 0 22 (dk_at dksX9_init_0 21 rfl rfl)
theorem dX9_init_24 : decode cX9_init 24 = .ok (.aload_n 0, 1) := dk_42 (dk_at dksX9_init_1 0 rfl rfl)
theorem dX9_init_25 : decode cX9_init 25 = .ok (.getfield 25, 3) := dk_180 0 25 (dk_at dksX9_init_1 1 rfl rfl)
theorem dX9_init_28 : decode cX9_init 28 = .ok (.ifCond .ne 30, 3) := dk_154 0 30 (dk_at dksX9_init_1 4 rfl rfl)
theorem dX9_init_31 : decode cX9_init 31 = .ok (.aload_n 0, 1) := dk_42 (dk_at dksX9_init_1 7 rfl rfl)
theorem dX9_init_32 : decode cX9_init 32 = .ok (.getfield 29, 3) := dk_180 0 29 (dk_at dksX9_init_1 8 rfl rfl)
theorem dX9_init_35 : decode cX9_init 35 = .ok (.aload_n 1, 1) := dk_43 (dk_at dksX9_init_1 11 rfl rfl)
theorem dX9_init_36 : decode cX9_init 36 = .ok (.getfield 33, 3) := dk_180 0 33 (dk_at dksX9_init_1 12 rfl rfl)
theorem dX9_init_39 : decode cX9_init 39 = .ok (.invokevirtual 37, 3) := dk_182 0 37 (dk_at dksX9_init_1 15 rfl rfl)
theorem dX9_init_42 : decode cX9_init 42 = .ok (.if_icmp .ge 16, 3) := dk_162 0 16 (dk_at dksX9_init_1 18 rfl rfl)
theorem dX9_init_45 : decode cX9_init 45 = .ok (.aload_n 0, 1) := dk_42 (dk_at dksX9_init_1 21 rfl rfl)
theorem dX9_init_46 : decode cX9_init 46 = .ok (.bipush 59, 2) := dk_16 59 (dk_at dksX9_init_1 22 rfl rfl)
theorem dX9_init_48 : decode cX9_init 48 = .ok (.invokevirtual 43, 3) := dk_182 0 43 (dk_at dksX9_init_2 0 rfl rfl)
theorem dX9_init_51 : decode cX9_init 51 = .ok (.aload_n 0, 1) := dk_42 (dk_at dksX9_init_2 3 rfl rfl)
theorem dX9_init_52 : decode cX9_init 52 = .ok (.invokevirtual 22, 3) := dk_182 0 22 (dk_at dksX9_init_2 4 rfl rfl)
theorem dX9_init_55 : decode cX9_init 55 = .ok (.goto (-31), 3) := dk_167 255 225 (dk_at dksX9_init_2 7 rfl rfl)
theorem dX9_init_58 : decode cX9_init 58 = .ok (.return_, 1) := dk_177 (dk_at dksX9_init_2 10 rfl rfl)
abbrev cX9_readCommand : ByteArray := prog_5_method_10_code
def yX9_readCommand : MethodName := ⟨RX9, "readCommand", "()V"⟩
def dkwX9_readCommand_7 : List UInt8 := [185, 0, 87, 2, 0, 87, 177]
abbrev dktX9_readCommand_7 : List UInt8 := dkwX9_readCommand_7 ++ []
def dkwX9_readCommand_6 : List UInt8 := [79, 89, 4, 27, 79, 89, 5, 21, 4, 79, 89, 6, 29, 79, 58, 5, 42, 180, 0, 18, 25, 5]
abbrev dktX9_readCommand_6 : List UInt8 := dkwX9_readCommand_6 ++ dktX9_readCommand_7
def dkwX9_readCommand_5 : List UInt8 := [16, 61, 160, 0, 10, 42, 182, 0, 70, 167, 0, 7, 42, 182, 0, 84, 54, 4, 7, 188, 10, 89, 3, 28]
abbrev dktX9_readCommand_5 : List UInt8 := dkwX9_readCommand_5 ++ dktX9_readCommand_6
def dkwX9_readCommand_4 : List UInt8 := [167, 0, 4, 3, 62, 42, 180, 0, 25, 154, 0, 9, 28, 16, 42, 160, 0, 7, 3, 167, 0, 20, 28]
abbrev dktX9_readCommand_4 : List UInt8 := dkwX9_readCommand_4 ++ dktX9_readCommand_5
def dkwX9_readCommand_3 : List UInt8 := [167, 0, 4, 4, 96, 181, 0, 29, 28, 16, 61, 160, 0, 16, 42, 16, 39, 182, 0, 55, 153, 0, 7, 4]
abbrev dktX9_readCommand_3 : List UInt8 := dkwX9_readCommand_3 ++ dktX9_readCommand_4
def dkwX9_readCommand_2 : List UInt8 := [156, 0, 7, 4, 167, 0, 4, 3, 181, 0, 25, 42, 89, 180, 0, 29, 42, 180, 0, 25, 153, 0, 7, 3]
abbrev dktX9_readCommand_2 : List UInt8 := dkwX9_readCommand_2 ++ dktX9_readCommand_3
def dkwX9_readCommand_1 : List UInt8 := [167, 0, 7, 42, 182, 0, 51, 61, 42, 42, 180, 0, 25, 154, 0, 12, 18, 76, 28, 182, 0, 78]
abbrev dktX9_readCommand_1 : List UInt8 := dkwX9_readCommand_1 ++ dktX9_readCommand_2
def dkwX9_readCommand_0 : List UInt8 := [42, 180, 0, 25, 153, 0, 7, 3, 167, 0, 7, 42, 182, 0, 73, 60, 42, 180, 0, 25, 153, 0, 7, 3]
abbrev dktX9_readCommand_0 : List UInt8 := dkwX9_readCommand_0 ++ dktX9_readCommand_1
theorem dksX9_readCommand_0 : cX9_readCommand.data.toList.drop 0 = dktX9_readCommand_0 := by decide +kernel
theorem dksX9_readCommand_1 : cX9_readCommand.data.toList.drop 24 = dktX9_readCommand_1 := dk_seg dksX9_readCommand_0 24 rfl rfl
theorem dksX9_readCommand_2 : cX9_readCommand.data.toList.drop 46 = dktX9_readCommand_2 := dk_seg dksX9_readCommand_1 22 rfl rfl
theorem dksX9_readCommand_3 : cX9_readCommand.data.toList.drop 70 = dktX9_readCommand_3 := dk_seg dksX9_readCommand_2 24 rfl rfl
theorem dksX9_readCommand_4 : cX9_readCommand.data.toList.drop 94 = dktX9_readCommand_4 := dk_seg dksX9_readCommand_3 24 rfl rfl
theorem dksX9_readCommand_5 : cX9_readCommand.data.toList.drop 117 = dktX9_readCommand_5 := dk_seg dksX9_readCommand_4 23 rfl rfl
theorem dksX9_readCommand_6 : cX9_readCommand.data.toList.drop 141 = dktX9_readCommand_6 := dk_seg dksX9_readCommand_5 24 rfl rfl
theorem dksX9_readCommand_7 : cX9_readCommand.data.toList.drop 163 = dktX9_readCommand_7 := dk_seg dksX9_readCommand_6 22 rfl rfl
theorem dX9_readCommand_0 : decode cX9_readCommand 0 = .ok (.aload_n 0, 1) := dk_42 (dk_at dksX9_readCommand_0 0 rfl rfl)
theorem dX9_readCommand_1 : decode cX9_readCommand 1 = .ok (.getfield 25, 3) := dk_180 0 25 (dk_at dksX9_readCommand_0 1 rfl rfl)
theorem dX9_readCommand_4 : decode cX9_readCommand 4 = .ok (.ifCond .eq 7, 3) := dk_153 0 7 (dk_at dksX9_readCommand_0 4 rfl rfl)
theorem dX9_readCommand_7 : decode cX9_readCommand 7 = .ok (.iconst 0, 1) := dk_3 (dk_at dksX9_readCommand_0 7 rfl rfl)
theorem dX9_readCommand_8 : decode cX9_readCommand 8 = .ok (.goto 7, 3) := dk_167 0 7 (dk_at dksX9_readCommand_0 8 rfl rfl)
theorem dX9_readCommand_11 : decode cX9_readCommand 11 = .ok (.aload_n 0, 1) := dk_42 (dk_at dksX9_readCommand_0 11 rfl rfl)
theorem dX9_readCommand_12 : decode cX9_readCommand 12 = .ok (.invokevirtual 73, 3) := dk_182 0 73 (dk_at dksX9_readCommand_0 12 rfl rfl)
theorem dX9_readCommand_15 : decode cX9_readCommand 15 = .ok (.istore_n 1, 1) := dk_60 (dk_at dksX9_readCommand_0 15 rfl rfl)
theorem dX9_readCommand_16 : decode cX9_readCommand 16 = .ok (.aload_n 0, 1) := dk_42 (dk_at dksX9_readCommand_0 16 rfl rfl)
theorem dX9_readCommand_17 : decode cX9_readCommand 17 = .ok (.getfield 25, 3) := dk_180 0 25 (dk_at dksX9_readCommand_0 17 rfl rfl)
theorem dX9_readCommand_20 : decode cX9_readCommand 20 = .ok (.ifCond .eq 7, 3) := dk_153 0 7 (dk_at dksX9_readCommand_0 20 rfl rfl)
theorem dX9_readCommand_23 : decode cX9_readCommand 23 = .ok (.iconst 0, 1) := dk_3 (dk_at dksX9_readCommand_0 23 rfl rfl)
theorem dX9_readCommand_24 : decode cX9_readCommand 24 = .ok (.goto 7, 3) := dk_167 0 7 (dk_at dksX9_readCommand_1 0 rfl rfl)
theorem dX9_readCommand_27 : decode cX9_readCommand 27 = .ok (.aload_n 0, 1) := dk_42 (dk_at dksX9_readCommand_1 3 rfl rfl)
theorem dX9_readCommand_28 : decode cX9_readCommand 28 = .ok (.invokevirtual 51, 3) := dk_182 0 51 (dk_at dksX9_readCommand_1 4 rfl rfl)
theorem dX9_readCommand_31 : decode cX9_readCommand 31 = .ok (.istore_n 2, 1) := dk_61 (dk_at dksX9_readCommand_1 7 rfl rfl)
theorem dX9_readCommand_32 : decode cX9_readCommand 32 = .ok (.aload_n 0, 1) := dk_42 (dk_at dksX9_readCommand_1 8 rfl rfl)
theorem dX9_readCommand_33 : decode cX9_readCommand 33 = .ok (.aload_n 0, 1) := dk_42 (dk_at dksX9_readCommand_1 9 rfl rfl)
theorem dX9_readCommand_34 : decode cX9_readCommand 34 = .ok (.getfield 25, 3) := dk_180 0 25 (dk_at dksX9_readCommand_1 10 rfl rfl)
theorem dX9_readCommand_37 : decode cX9_readCommand 37 = .ok (.ifCond .ne 12, 3) := dk_154 0 12 (dk_at dksX9_readCommand_1 13 rfl rfl)
theorem dX9_readCommand_40 : decode cX9_readCommand 40 = .ok (.ldc 76, 2) := dk_18 76 (dk_at dksX9_readCommand_1 16 rfl rfl)
theorem dX9_readCommand_42 : decode cX9_readCommand 42 = .ok (.iload_n 2, 1) := dk_28 (dk_at dksX9_readCommand_1 18 rfl rfl)
theorem dX9_readCommand_43 : decode cX9_readCommand 43 = .ok (.invokevirtual 78, 3) := dk_182 0 78 (dk_at dksX9_readCommand_1 19 rfl rfl)
theorem dX9_readCommand_46 : decode cX9_readCommand 46 = .ok (.ifCond .ge 7, 3) := dk_156 0 7 (dk_at dksX9_readCommand_2 0 rfl rfl)
theorem dX9_readCommand_49 : decode cX9_readCommand 49 = .ok (.iconst 1, 1) := dk_4 (dk_at dksX9_readCommand_2 3 rfl rfl)
theorem dX9_readCommand_50 : decode cX9_readCommand 50 = .ok (.goto 4, 3) := dk_167 0 4 (dk_at dksX9_readCommand_2 4 rfl rfl)
theorem dX9_readCommand_53 : decode cX9_readCommand 53 = .ok (.iconst 0, 1) := dk_3 (dk_at dksX9_readCommand_2 7 rfl rfl)
theorem dX9_readCommand_54 : decode cX9_readCommand 54 = .ok (.putfield 25, 3) := dk_181 0 25 (dk_at dksX9_readCommand_2 8 rfl rfl)
theorem dX9_readCommand_57 : decode cX9_readCommand 57 = .ok (.aload_n 0, 1) := dk_42 (dk_at dksX9_readCommand_2 11 rfl rfl)
theorem dX9_readCommand_58 : decode cX9_readCommand 58 = .ok (.dup, 1) := dk_89 (dk_at dksX9_readCommand_2 12 rfl rfl)
theorem dX9_readCommand_59 : decode cX9_readCommand 59 = .ok (.getfield 29, 3) := dk_180 0 29 (dk_at dksX9_readCommand_2 13 rfl rfl)
theorem dX9_readCommand_62 : decode cX9_readCommand 62 = .ok (.aload_n 0, 1) := dk_42 (dk_at dksX9_readCommand_2 16 rfl rfl)
theorem dX9_readCommand_63 : decode cX9_readCommand 63 = .ok (.getfield 25, 3) := dk_180 0 25 (dk_at dksX9_readCommand_2 17 rfl rfl)
theorem dX9_readCommand_66 : decode cX9_readCommand 66 = .ok (.ifCond .eq 7, 3) := dk_153 0 7 (dk_at dksX9_readCommand_2 20 rfl rfl)
theorem dX9_readCommand_69 : decode cX9_readCommand 69 = .ok (.iconst 0, 1) := dk_3 (dk_at dksX9_readCommand_2 23 rfl rfl)
theorem dX9_readCommand_70 : decode cX9_readCommand 70 = .ok (.goto 4, 3) := dk_167 0 4 (dk_at dksX9_readCommand_3 0 rfl rfl)
theorem dX9_readCommand_73 : decode cX9_readCommand 73 = .ok (.iconst 1, 1) := dk_4 (dk_at dksX9_readCommand_3 3 rfl rfl)
theorem dX9_readCommand_74 : decode cX9_readCommand 74 = .ok (.iadd, 1) := dk_96 (dk_at dksX9_readCommand_3 4 rfl rfl)
theorem dX9_readCommand_75 : decode cX9_readCommand 75 = .ok (.putfield 29, 3) := dk_181 0 29 (dk_at dksX9_readCommand_3 5 rfl rfl)
theorem dX9_readCommand_78 : decode cX9_readCommand 78 = .ok (.iload_n 2, 1) := dk_28 (dk_at dksX9_readCommand_3 8 rfl rfl)
theorem dX9_readCommand_79 : decode cX9_readCommand 79 = .ok (.bipush 61, 2) := dk_16 61 (dk_at dksX9_readCommand_3 9 rfl rfl)
theorem dX9_readCommand_81 : decode cX9_readCommand 81 = .ok (.if_icmp .ne 16, 3) := dk_160 0 16 (dk_at dksX9_readCommand_3 11 rfl rfl)
theorem dX9_readCommand_84 : decode cX9_readCommand 84 = .ok (.aload_n 0, 1) := dk_42 (dk_at dksX9_readCommand_3 14 rfl rfl)
theorem dX9_readCommand_85 : decode cX9_readCommand 85 = .ok (.bipush 39, 2) := dk_16 39 (dk_at dksX9_readCommand_3 15 rfl rfl)
theorem dX9_readCommand_87 : decode cX9_readCommand 87 = .ok (.invokevirtual 55, 3) := dk_182 0 55 (dk_at dksX9_readCommand_3 17 rfl rfl)
theorem dX9_readCommand_90 : decode cX9_readCommand 90 = .ok (.ifCond .eq 7, 3) := dk_153 0 7 (dk_at dksX9_readCommand_3 20 rfl rfl)
theorem dX9_readCommand_93 : decode cX9_readCommand 93 = .ok (.iconst 1, 1) := dk_4 (dk_at dksX9_readCommand_3 23 rfl rfl)
theorem dX9_readCommand_94 : decode cX9_readCommand 94 = .ok (.goto 4, 3) := dk_167 0 4 (dk_at dksX9_readCommand_4 0 rfl rfl)
theorem dX9_readCommand_97 : decode cX9_readCommand 97 = .ok (.iconst 0, 1) := dk_3 (dk_at dksX9_readCommand_4 3 rfl rfl)
theorem dX9_readCommand_98 : decode cX9_readCommand 98 = .ok (.istore_n 3, 1) := dk_62 (dk_at dksX9_readCommand_4 4 rfl rfl)
theorem dX9_readCommand_99 : decode cX9_readCommand 99 = .ok (.aload_n 0, 1) := dk_42 (dk_at dksX9_readCommand_4 5 rfl rfl)
theorem dX9_readCommand_100 : decode cX9_readCommand 100 = .ok (.getfield 25, 3) := dk_180 0 25 (dk_at dksX9_readCommand_4 6 rfl rfl)
theorem dX9_readCommand_103 : decode cX9_readCommand 103 = .ok (.ifCond .ne 9, 3) := dk_154 0 9 (dk_at dksX9_readCommand_4 9 rfl rfl)
theorem dX9_readCommand_106 : decode cX9_readCommand 106 = .ok (.iload_n 2, 1) := dk_28 (dk_at dksX9_readCommand_4 12 rfl rfl)
theorem dX9_readCommand_107 : decode cX9_readCommand 107 = .ok (.bipush 42, 2) := dk_16 42 (dk_at dksX9_readCommand_4 13 rfl rfl)
theorem dX9_readCommand_109 : decode cX9_readCommand 109 = .ok (.if_icmp .ne 7, 3) := dk_160 0 7 (dk_at dksX9_readCommand_4 15 rfl rfl)
theorem dX9_readCommand_112 : decode cX9_readCommand 112 = .ok (.iconst 0, 1) := dk_3 (dk_at dksX9_readCommand_4 18 rfl rfl)
theorem dX9_readCommand_113 : decode cX9_readCommand 113 = .ok (.goto 20, 3) := dk_167 0 20 (dk_at dksX9_readCommand_4 19 rfl rfl)
theorem dX9_readCommand_116 : decode cX9_readCommand 116 = .ok (.iload_n 2, 1) := dk_28 (dk_at dksX9_readCommand_4 22 rfl rfl)
theorem dX9_readCommand_117 : decode cX9_readCommand 117 = .ok (.bipush 61, 2) := dk_16 61 (dk_at dksX9_readCommand_5 0 rfl rfl)
theorem dX9_readCommand_119 : decode cX9_readCommand 119 = .ok (.if_icmp .ne 10, 3) := dk_160 0 10 (dk_at dksX9_readCommand_5 2 rfl rfl)
theorem dX9_readCommand_122 : decode cX9_readCommand 122 = .ok (.aload_n 0, 1) := dk_42 (dk_at dksX9_readCommand_5 5 rfl rfl)
theorem dX9_readCommand_123 : decode cX9_readCommand 123 = .ok (.invokevirtual 70, 3) := dk_182 0 70 (dk_at dksX9_readCommand_5 6 rfl rfl)
theorem dX9_readCommand_126 : decode cX9_readCommand 126 = .ok (.goto 7, 3) := dk_167 0 7 (dk_at dksX9_readCommand_5 9 rfl rfl)
theorem dX9_readCommand_129 : decode cX9_readCommand 129 = .ok (.aload_n 0, 1) := dk_42 (dk_at dksX9_readCommand_5 12 rfl rfl)
theorem dX9_readCommand_130 : decode cX9_readCommand 130 = .ok (.invokevirtual 84, 3) := dk_182 0 84 (dk_at dksX9_readCommand_5 13 rfl rfl)
theorem dX9_readCommand_133 : decode cX9_readCommand 133 = .ok (.istore 4, 2) := dk_54 4 (dk_at dksX9_readCommand_5 16 rfl rfl)
theorem dX9_readCommand_135 : decode cX9_readCommand 135 = .ok (.iconst 4, 1) := dk_7 (dk_at dksX9_readCommand_5 18 rfl rfl)
theorem dX9_readCommand_136 : decode cX9_readCommand 136 = .ok (.newarray .int, 2) := dk_188_10 (dk_at dksX9_readCommand_5 19 rfl rfl)
theorem dX9_readCommand_138 : decode cX9_readCommand 138 = .ok (.dup, 1) := dk_89 (dk_at dksX9_readCommand_5 21 rfl rfl)
theorem dX9_readCommand_139 : decode cX9_readCommand 139 = .ok (.iconst 0, 1) := dk_3 (dk_at dksX9_readCommand_5 22 rfl rfl)
theorem dX9_readCommand_140 : decode cX9_readCommand 140 = .ok (.iload_n 2, 1) := dk_28 (dk_at dksX9_readCommand_5 23 rfl rfl)
theorem dX9_readCommand_141 : decode cX9_readCommand 141 = .ok (.iastore, 1) := dk_79 (dk_at dksX9_readCommand_6 0 rfl rfl)
theorem dX9_readCommand_142 : decode cX9_readCommand 142 = .ok (.dup, 1) := dk_89 (dk_at dksX9_readCommand_6 1 rfl rfl)
theorem dX9_readCommand_143 : decode cX9_readCommand 143 = .ok (.iconst 1, 1) := dk_4 (dk_at dksX9_readCommand_6 2 rfl rfl)
theorem dX9_readCommand_144 : decode cX9_readCommand 144 = .ok (.iload_n 1, 1) := dk_27 (dk_at dksX9_readCommand_6 3 rfl rfl)
theorem dX9_readCommand_145 : decode cX9_readCommand 145 = .ok (.iastore, 1) := dk_79 (dk_at dksX9_readCommand_6 4 rfl rfl)
theorem dX9_readCommand_146 : decode cX9_readCommand 146 = .ok (.dup, 1) := dk_89 (dk_at dksX9_readCommand_6 5 rfl rfl)
theorem dX9_readCommand_147 : decode cX9_readCommand 147 = .ok (.iconst 2, 1) := dk_5 (dk_at dksX9_readCommand_6 6 rfl rfl)
theorem dX9_readCommand_148 : decode cX9_readCommand 148 = .ok (.iload 4, 2) := dk_21 4 (dk_at dksX9_readCommand_6 7 rfl rfl)
theorem dX9_readCommand_150 : decode cX9_readCommand 150 = .ok (.iastore, 1) := dk_79 (dk_at dksX9_readCommand_6 9 rfl rfl)
theorem dX9_readCommand_151 : decode cX9_readCommand 151 = .ok (.dup, 1) := dk_89 (dk_at dksX9_readCommand_6 10 rfl rfl)
theorem dX9_readCommand_152 : decode cX9_readCommand 152 = .ok (.iconst 3, 1) := dk_6 (dk_at dksX9_readCommand_6 11 rfl rfl)
theorem dX9_readCommand_153 : decode cX9_readCommand 153 = .ok (.iload_n 3, 1) := dk_29 (dk_at dksX9_readCommand_6 12 rfl rfl)
theorem dX9_readCommand_154 : decode cX9_readCommand 154 = .ok (.iastore, 1) := dk_79 (dk_at dksX9_readCommand_6 13 rfl rfl)
theorem dX9_readCommand_155 : decode cX9_readCommand 155 = .ok (.astore 5, 2) := dk_58 5 (dk_at dksX9_readCommand_6 14 rfl rfl)
theorem dX9_readCommand_157 : decode cX9_readCommand 157 = .ok (.aload_n 0, 1) := dk_42 (dk_at dksX9_readCommand_6 16 rfl rfl)
theorem dX9_readCommand_158 : decode cX9_readCommand 158 = .ok (.getfield 18, 3) := dk_180 0 18 (dk_at dksX9_readCommand_6 17 rfl rfl)
theorem dX9_readCommand_161 : decode cX9_readCommand 161 = .ok (.aload 5, 2) := dk_25 5 (dk_at dksX9_readCommand_6 20 rfl rfl)
theorem dX9_readCommand_163 : decode cX9_readCommand 163 = .ok (.invokeinterface 87 2, 5) := by decide +kernel
theorem dX9_readCommand_168 : decode cX9_readCommand 168 = .ok (.pop, 1) := dk_87 (dk_at dksX9_readCommand_7 5 rfl rfl)
theorem dX9_readCommand_169 : decode cX9_readCommand 169 = .ok (.return_, 1) := dk_177 (dk_at dksX9_readCommand_7 6 rfl rfl)
abbrev cX9_readNumber : ByteArray := prog_5_method_7_code
def yX9_readNumber : MethodName := ⟨RX9, "readNumber", "()I"⟩
def dkwX9_readNumber_1 : List UInt8 := [96, 167, 0, 4, 27, 172]
abbrev dktX9_readNumber_1 : List UInt8 := dkwX9_readNumber_1 ++ []
def dkwX9_readNumber_0 : List UInt8 := [42, 182, 0, 67, 60, 27, 158, 0, 22, 42, 182, 0, 63, 153, 0, 15, 16, 10, 27, 104, 42, 182, 0, 67]
abbrev dktX9_readNumber_0 : List UInt8 := dkwX9_readNumber_0 ++ dktX9_readNumber_1
theorem dksX9_readNumber_0 : cX9_readNumber.data.toList.drop 0 = dktX9_readNumber_0 := by decide +kernel
theorem dksX9_readNumber_1 : cX9_readNumber.data.toList.drop 24 = dktX9_readNumber_1 := dk_seg dksX9_readNumber_0 24 rfl rfl
theorem dX9_readNumber_0 : decode cX9_readNumber 0 = .ok (.aload_n 0, 1) := dk_42 (dk_at dksX9_readNumber_0 0 rfl rfl)
theorem dX9_readNumber_1 : decode cX9_readNumber 1 = .ok (.invokevirtual 67, 3) := dk_182 0 67 (dk_at dksX9_readNumber_0 1 rfl rfl)
theorem dX9_readNumber_4 : decode cX9_readNumber 4 = .ok (.istore_n 1, 1) := dk_60 (dk_at dksX9_readNumber_0 4 rfl rfl)
theorem dX9_readNumber_5 : decode cX9_readNumber 5 = .ok (.iload_n 1, 1) := dk_27 (dk_at dksX9_readNumber_0 5 rfl rfl)
theorem dX9_readNumber_6 : decode cX9_readNumber 6 = .ok (.ifCond .le 22, 3) := dk_158 0 22 (dk_at dksX9_readNumber_0 6 rfl rfl)
theorem dX9_readNumber_9 : decode cX9_readNumber 9 = .ok (.aload_n 0, 1) := dk_42 (dk_at dksX9_readNumber_0 9 rfl rfl)
theorem dX9_readNumber_10 : decode cX9_readNumber 10 = .ok (.invokevirtual 63, 3) := dk_182 0 63 (dk_at dksX9_readNumber_0 10 rfl rfl)
theorem dX9_readNumber_13 : decode cX9_readNumber 13 = .ok (.ifCond .eq 15, 3) := dk_153 0 15 (dk_at dksX9_readNumber_0 13 rfl rfl)
theorem dX9_readNumber_16 : decode cX9_readNumber 16 = .ok (.bipush 10, 2) := dk_16 10 (dk_at dksX9_readNumber_0 16 rfl rfl)
theorem dX9_readNumber_18 : decode cX9_readNumber 18 = .ok (.iload_n 1, 1) := dk_27 (dk_at dksX9_readNumber_0 18 rfl rfl)
theorem dX9_readNumber_19 : decode cX9_readNumber 19 = .ok (.imul, 1) := dk_104 (dk_at dksX9_readNumber_0 19 rfl rfl)
theorem dX9_readNumber_20 : decode cX9_readNumber 20 = .ok (.aload_n 0, 1) := dk_42 (dk_at dksX9_readNumber_0 20 rfl rfl)
theorem dX9_readNumber_21 : decode cX9_readNumber 21 = .ok (.invokevirtual 67, 3) := dk_182 0 67 (dk_at dksX9_readNumber_0 21 rfl rfl)
theorem dX9_readNumber_24 : decode cX9_readNumber 24 = .ok (.iadd, 1) := dk_96 (dk_at dksX9_readNumber_1 0 rfl rfl)
theorem dX9_readNumber_25 : decode cX9_readNumber 25 = .ok (.goto 4, 3) := dk_167 0 4 (dk_at dksX9_readNumber_1 1 rfl rfl)
theorem dX9_readNumber_28 : decode cX9_readNumber 28 = .ok (.iload_n 1, 1) := dk_27 (dk_at dksX9_readNumber_1 4 rfl rfl)
theorem dX9_readNumber_29 : decode cX9_readNumber 29 = .ok (.ireturn, 1) := dk_172 (dk_at dksX9_readNumber_1 5 rfl rfl)
abbrev cX9_readDigit : ByteArray := prog_5_method_6_code
def yX9_readDigit : MethodName := ⟨RX9, "readDigit", "()I"⟩
def dkwX9_readDigit_2 : List UInt8 := [182, 0, 47, 16, 48, 100, 172]
abbrev dktX9_readDigit_2 : List UInt8 := dkwX9_readDigit_2 ++ []
def dkwX9_readDigit_1 : List UInt8 := [172, 42, 89, 180, 0, 29, 4, 96, 181, 0, 29, 42, 180, 0, 3, 180, 0, 33, 42, 180, 0, 29, 4, 100]
abbrev dktX9_readDigit_1 : List UInt8 := dkwX9_readDigit_1 ++ dktX9_readDigit_2
def dkwX9_readDigit_0 : List UInt8 := [42, 42, 182, 0, 63, 154, 0, 7, 4, 167, 0, 4, 3, 181, 0, 25, 42, 180, 0, 25, 153, 0, 5, 3]
abbrev dktX9_readDigit_0 : List UInt8 := dkwX9_readDigit_0 ++ dktX9_readDigit_1
theorem dksX9_readDigit_0 : cX9_readDigit.data.toList.drop 0 = dktX9_readDigit_0 := by decide +kernel
theorem dksX9_readDigit_1 : cX9_readDigit.data.toList.drop 24 = dktX9_readDigit_1 := dk_seg dksX9_readDigit_0 24 rfl rfl
theorem dksX9_readDigit_2 : cX9_readDigit.data.toList.drop 48 = dktX9_readDigit_2 := dk_seg dksX9_readDigit_1 24 rfl rfl
theorem dX9_readDigit_0 : decode cX9_readDigit 0 = .ok (.aload_n 0, 1) := dk_42 (dk_at dksX9_readDigit_0 0 rfl rfl)
theorem dX9_readDigit_1 : decode cX9_readDigit 1 = .ok (.aload_n 0, 1) := dk_42 (dk_at dksX9_readDigit_0 1 rfl rfl)
theorem dX9_readDigit_2 : decode cX9_readDigit 2 = .ok (.invokevirtual 63, 3) := dk_182 0 63 (dk_at dksX9_readDigit_0 2 rfl rfl)
theorem dX9_readDigit_5 : decode cX9_readDigit 5 = .ok (.ifCond .ne 7, 3) := dk_154 0 7 (dk_at dksX9_readDigit_0 5 rfl rfl)
theorem dX9_readDigit_8 : decode cX9_readDigit 8 = .ok (.iconst 1, 1) := dk_4 (dk_at dksX9_readDigit_0 8 rfl rfl)
theorem dX9_readDigit_9 : decode cX9_readDigit 9 = .ok (.goto 4, 3) := dk_167 0 4 (dk_at dksX9_readDigit_0 9 rfl rfl)
theorem dX9_readDigit_12 : decode cX9_readDigit 12 = .ok (.iconst 0, 1) := dk_3 (dk_at dksX9_readDigit_0 12 rfl rfl)
theorem dX9_readDigit_13 : decode cX9_readDigit 13 = .ok (.putfield 25, 3) := dk_181 0 25 (dk_at dksX9_readDigit_0 13 rfl rfl)
theorem dX9_readDigit_16 : decode cX9_readDigit 16 = .ok (.aload_n 0, 1) := dk_42 (dk_at dksX9_readDigit_0 16 rfl rfl)
theorem dX9_readDigit_17 : decode cX9_readDigit 17 = .ok (.getfield 25, 3) := dk_180 0 25 (dk_at dksX9_readDigit_0 17 rfl rfl)
theorem dX9_readDigit_20 : decode cX9_readDigit 20 = .ok (.ifCond .eq 5, 3) := dk_153 0 5 (dk_at dksX9_readDigit_0 20 rfl rfl)
theorem dX9_readDigit_23 : decode cX9_readDigit 23 = .ok (.iconst 0, 1) := dk_3 (dk_at dksX9_readDigit_0 23 rfl rfl)
theorem dX9_readDigit_24 : decode cX9_readDigit 24 = .ok (.ireturn, 1) := dk_172 (dk_at dksX9_readDigit_1 0 rfl rfl)
theorem dX9_readDigit_25 : decode cX9_readDigit 25 = .ok (.aload_n 0, 1) := dk_42 (dk_at dksX9_readDigit_1 1 rfl rfl)
theorem dX9_readDigit_26 : decode cX9_readDigit 26 = .ok (.dup, 1) := dk_89 (dk_at dksX9_readDigit_1 2 rfl rfl)
theorem dX9_readDigit_27 : decode cX9_readDigit 27 = .ok (.getfield 29, 3) := dk_180 0 29 (dk_at dksX9_readDigit_1 3 rfl rfl)
theorem dX9_readDigit_30 : decode cX9_readDigit 30 = .ok (.iconst 1, 1) := dk_4 (dk_at dksX9_readDigit_1 6 rfl rfl)
theorem dX9_readDigit_31 : decode cX9_readDigit 31 = .ok (.iadd, 1) := dk_96 (dk_at dksX9_readDigit_1 7 rfl rfl)
theorem dX9_readDigit_32 : decode cX9_readDigit 32 = .ok (.putfield 29, 3) := dk_181 0 29 (dk_at dksX9_readDigit_1 8 rfl rfl)
theorem dX9_readDigit_35 : decode cX9_readDigit 35 = .ok (.aload_n 0, 1) := dk_42 (dk_at dksX9_readDigit_1 11 rfl rfl)
theorem dX9_readDigit_36 : decode cX9_readDigit 36 = .ok (.getfield 3, 3) := dk_180 0 3 (dk_at dksX9_readDigit_1 12 rfl rfl)
theorem dX9_readDigit_39 : decode cX9_readDigit 39 = .ok (.getfield 33, 3) := dk_180 0 33 (dk_at dksX9_readDigit_1 15 rfl rfl)
theorem dX9_readDigit_42 : decode cX9_readDigit 42 = .ok (.aload_n 0, 1) := dk_42 (dk_at dksX9_readDigit_1 18 rfl rfl)
theorem dX9_readDigit_43 : decode cX9_readDigit 43 = .ok (.getfield 29, 3) := dk_180 0 29 (dk_at dksX9_readDigit_1 19 rfl rfl)
theorem dX9_readDigit_46 : decode cX9_readDigit 46 = .ok (.iconst 1, 1) := dk_4 (dk_at dksX9_readDigit_1 22 rfl rfl)
theorem dX9_readDigit_47 : decode cX9_readDigit 47 = .ok (.isub, 1) := dk_100 (dk_at dksX9_readDigit_1 23 rfl rfl)
theorem dX9_readDigit_48 : decode cX9_readDigit 48 = .ok (.invokevirtual 47, 3) := dk_182 0 47 (dk_at dksX9_readDigit_2 0 rfl rfl)
theorem dX9_readDigit_51 : decode cX9_readDigit 51 = .ok (.bipush 48, 2) := dk_16 48 (dk_at dksX9_readDigit_2 3 rfl rfl)
theorem dX9_readDigit_53 : decode cX9_readDigit 53 = .ok (.isub, 1) := dk_100 (dk_at dksX9_readDigit_2 5 rfl rfl)
theorem dX9_readDigit_54 : decode cX9_readDigit 54 = .ok (.ireturn, 1) := dk_172 (dk_at dksX9_readDigit_2 6 rfl rfl)
abbrev cX9_seesDigit : ByteArray := prog_5_method_5_code
def yX9_seesDigit : MethodName := ⟨RX9, "seesDigit", "()Z"⟩
def dkwX9_seesDigit_1 : List UInt8 := [167, 0, 4, 3, 172]
abbrev dktX9_seesDigit_1 : List UInt8 := dkwX9_seesDigit_1 ++ []
def dkwX9_seesDigit_0 : List UInt8 := [42, 180, 0, 25, 154, 0, 21, 42, 182, 0, 51, 16, 48, 16, 57, 184, 0, 59, 153, 0, 7, 4]
abbrev dktX9_seesDigit_0 : List UInt8 := dkwX9_seesDigit_0 ++ dktX9_seesDigit_1
theorem dksX9_seesDigit_0 : cX9_seesDigit.data.toList.drop 0 = dktX9_seesDigit_0 := by decide +kernel
theorem dksX9_seesDigit_1 : cX9_seesDigit.data.toList.drop 22 = dktX9_seesDigit_1 := dk_seg dksX9_seesDigit_0 22 rfl rfl
theorem dX9_seesDigit_0 : decode cX9_seesDigit 0 = .ok (.aload_n 0, 1) := dk_42 (dk_at dksX9_seesDigit_0 0 rfl rfl)
theorem dX9_seesDigit_1 : decode cX9_seesDigit 1 = .ok (.getfield 25, 3) := dk_180 0 25 (dk_at dksX9_seesDigit_0 1 rfl rfl)
theorem dX9_seesDigit_4 : decode cX9_seesDigit 4 = .ok (.ifCond .ne 21, 3) := dk_154 0 21 (dk_at dksX9_seesDigit_0 4 rfl rfl)
theorem dX9_seesDigit_7 : decode cX9_seesDigit 7 = .ok (.aload_n 0, 1) := dk_42 (dk_at dksX9_seesDigit_0 7 rfl rfl)
theorem dX9_seesDigit_8 : decode cX9_seesDigit 8 = .ok (.invokevirtual 51, 3) := dk_182 0 51 (dk_at dksX9_seesDigit_0 8 rfl rfl)
theorem dX9_seesDigit_11 : decode cX9_seesDigit 11 = .ok (.bipush 48, 2) := dk_16 48 (dk_at dksX9_seesDigit_0 11 rfl rfl)
theorem dX9_seesDigit_13 : decode cX9_seesDigit 13 = .ok (.bipush 57, 2) := dk_16 57 (dk_at dksX9_seesDigit_0 13 rfl rfl)
theorem dX9_seesDigit_15 : decode cX9_seesDigit 15 = .ok (.invokestatic 59, 3) := dk_184 0 59 (dk_at dksX9_seesDigit_0 15 rfl rfl)
theorem dX9_seesDigit_18 : decode cX9_seesDigit 18 = .ok (.ifCond .eq 7, 3) := dk_153 0 7 (dk_at dksX9_seesDigit_0 18 rfl rfl)
theorem dX9_seesDigit_21 : decode cX9_seesDigit 21 = .ok (.iconst 1, 1) := dk_4 (dk_at dksX9_seesDigit_0 21 rfl rfl)
theorem dX9_seesDigit_22 : decode cX9_seesDigit 22 = .ok (.goto 4, 3) := dk_167 0 4 (dk_at dksX9_seesDigit_1 0 rfl rfl)
theorem dX9_seesDigit_25 : decode cX9_seesDigit 25 = .ok (.iconst 0, 1) := dk_3 (dk_at dksX9_seesDigit_1 3 rfl rfl)
theorem dX9_seesDigit_26 : decode cX9_seesDigit 26 = .ok (.ireturn, 1) := dk_172 (dk_at dksX9_seesDigit_1 4 rfl rfl)
abbrev cX9_next : ByteArray := prog_5_method_2_code
def yX9_next : MethodName := ⟨RX9, "next", "()C"⟩
def dkwX9_next_1 : List UInt8 := [42, 180, 0, 29, 182, 0, 47, 167, 0, 4, 3, 172]
abbrev dktX9_next_1 : List UInt8 := dkwX9_next_1 ++ []
def dkwX9_next_0 : List UInt8 := [42, 180, 0, 29, 42, 180, 0, 3, 180, 0, 33, 182, 0, 37, 162, 0, 20, 42, 180, 0, 3, 180, 0, 33]
abbrev dktX9_next_0 : List UInt8 := dkwX9_next_0 ++ dktX9_next_1
theorem dksX9_next_0 : cX9_next.data.toList.drop 0 = dktX9_next_0 := by decide +kernel
theorem dksX9_next_1 : cX9_next.data.toList.drop 24 = dktX9_next_1 := dk_seg dksX9_next_0 24 rfl rfl
theorem dX9_next_0 : decode cX9_next 0 = .ok (.aload_n 0, 1) := dk_42 (dk_at dksX9_next_0 0 rfl rfl)
theorem dX9_next_1 : decode cX9_next 1 = .ok (.getfield 29, 3) := dk_180 0 29 (dk_at dksX9_next_0 1 rfl rfl)
theorem dX9_next_4 : decode cX9_next 4 = .ok (.aload_n 0, 1) := dk_42 (dk_at dksX9_next_0 4 rfl rfl)
theorem dX9_next_5 : decode cX9_next 5 = .ok (.getfield 3, 3) := dk_180 0 3 (dk_at dksX9_next_0 5 rfl rfl)
theorem dX9_next_8 : decode cX9_next 8 = .ok (.getfield 33, 3) := dk_180 0 33 (dk_at dksX9_next_0 8 rfl rfl)
theorem dX9_next_11 : decode cX9_next 11 = .ok (.invokevirtual 37, 3) := dk_182 0 37 (dk_at dksX9_next_0 11 rfl rfl)
theorem dX9_next_14 : decode cX9_next 14 = .ok (.if_icmp .ge 20, 3) := dk_162 0 20 (dk_at dksX9_next_0 14 rfl rfl)
theorem dX9_next_17 : decode cX9_next 17 = .ok (.aload_n 0, 1) := dk_42 (dk_at dksX9_next_0 17 rfl rfl)
theorem dX9_next_18 : decode cX9_next 18 = .ok (.getfield 3, 3) := dk_180 0 3 (dk_at dksX9_next_0 18 rfl rfl)
theorem dX9_next_21 : decode cX9_next 21 = .ok (.getfield 33, 3) := dk_180 0 33 (dk_at dksX9_next_0 21 rfl rfl)
theorem dX9_next_24 : decode cX9_next 24 = .ok (.aload_n 0, 1) := dk_42 (dk_at dksX9_next_1 0 rfl rfl)
theorem dX9_next_25 : decode cX9_next 25 = .ok (.getfield 29, 3) := dk_180 0 29 (dk_at dksX9_next_1 1 rfl rfl)
theorem dX9_next_28 : decode cX9_next 28 = .ok (.invokevirtual 47, 3) := dk_182 0 47 (dk_at dksX9_next_1 4 rfl rfl)
theorem dX9_next_31 : decode cX9_next 31 = .ok (.goto 4, 3) := dk_167 0 4 (dk_at dksX9_next_1 7 rfl rfl)
theorem dX9_next_34 : decode cX9_next 34 = .ok (.iconst 0, 1) := dk_3 (dk_at dksX9_next_1 10 rfl rfl)
theorem dX9_next_35 : decode cX9_next 35 = .ok (.ireturn, 1) := dk_172 (dk_at dksX9_next_1 11 rfl rfl)
abbrev cX9_skips : ByteArray := prog_5_method_3_code
def yX9_skips : MethodName := ⟨RX9, "skips", "(C)Z"⟩
def dkwX9_skips_1 : List UInt8 := [180, 0, 29, 28, 153, 0, 7, 4, 167, 0, 4, 3, 96, 181, 0, 29, 28, 172]
abbrev dktX9_skips_1 : List UInt8 := dkwX9_skips_1 ++ []
def dkwX9_skips_0 : List UInt8 := [42, 180, 0, 25, 154, 0, 15, 42, 182, 0, 51, 27, 160, 0, 7, 4, 167, 0, 4, 3, 61, 42, 89]
abbrev dktX9_skips_0 : List UInt8 := dkwX9_skips_0 ++ dktX9_skips_1
theorem dksX9_skips_0 : cX9_skips.data.toList.drop 0 = dktX9_skips_0 := by decide +kernel
theorem dksX9_skips_1 : cX9_skips.data.toList.drop 23 = dktX9_skips_1 := dk_seg dksX9_skips_0 23 rfl rfl
theorem dX9_skips_0 : decode cX9_skips 0 = .ok (.aload_n 0, 1) := dk_42 (dk_at dksX9_skips_0 0 rfl rfl)
theorem dX9_skips_1 : decode cX9_skips 1 = .ok (.getfield 25, 3) := dk_180 0 25 (dk_at dksX9_skips_0 1 rfl rfl)
theorem dX9_skips_4 : decode cX9_skips 4 = .ok (.ifCond .ne 15, 3) := dk_154 0 15 (dk_at dksX9_skips_0 4 rfl rfl)
theorem dX9_skips_7 : decode cX9_skips 7 = .ok (.aload_n 0, 1) := dk_42 (dk_at dksX9_skips_0 7 rfl rfl)
theorem dX9_skips_8 : decode cX9_skips 8 = .ok (.invokevirtual 51, 3) := dk_182 0 51 (dk_at dksX9_skips_0 8 rfl rfl)
theorem dX9_skips_11 : decode cX9_skips 11 = .ok (.iload_n 1, 1) := dk_27 (dk_at dksX9_skips_0 11 rfl rfl)
theorem dX9_skips_12 : decode cX9_skips 12 = .ok (.if_icmp .ne 7, 3) := dk_160 0 7 (dk_at dksX9_skips_0 12 rfl rfl)
theorem dX9_skips_15 : decode cX9_skips 15 = .ok (.iconst 1, 1) := dk_4 (dk_at dksX9_skips_0 15 rfl rfl)
theorem dX9_skips_16 : decode cX9_skips 16 = .ok (.goto 4, 3) := dk_167 0 4 (dk_at dksX9_skips_0 16 rfl rfl)
theorem dX9_skips_19 : decode cX9_skips 19 = .ok (.iconst 0, 1) := dk_3 (dk_at dksX9_skips_0 19 rfl rfl)
theorem dX9_skips_20 : decode cX9_skips 20 = .ok (.istore_n 2, 1) := dk_61 (dk_at dksX9_skips_0 20 rfl rfl)
theorem dX9_skips_21 : decode cX9_skips 21 = .ok (.aload_n 0, 1) := dk_42 (dk_at dksX9_skips_0 21 rfl rfl)
theorem dX9_skips_22 : decode cX9_skips 22 = .ok (.dup, 1) := dk_89 (dk_at dksX9_skips_0 22 rfl rfl)
theorem dX9_skips_23 : decode cX9_skips 23 = .ok (.getfield 29, 3) := dk_180 0 29 (dk_at dksX9_skips_1 0 rfl rfl)
theorem dX9_skips_26 : decode cX9_skips 26 = .ok (.iload_n 2, 1) := dk_28 (dk_at dksX9_skips_1 3 rfl rfl)
theorem dX9_skips_27 : decode cX9_skips 27 = .ok (.ifCond .eq 7, 3) := dk_153 0 7 (dk_at dksX9_skips_1 4 rfl rfl)
theorem dX9_skips_30 : decode cX9_skips 30 = .ok (.iconst 1, 1) := dk_4 (dk_at dksX9_skips_1 7 rfl rfl)
theorem dX9_skips_31 : decode cX9_skips 31 = .ok (.goto 4, 3) := dk_167 0 4 (dk_at dksX9_skips_1 8 rfl rfl)
theorem dX9_skips_34 : decode cX9_skips 34 = .ok (.iconst 0, 1) := dk_3 (dk_at dksX9_skips_1 11 rfl rfl)
theorem dX9_skips_35 : decode cX9_skips 35 = .ok (.iadd, 1) := dk_96 (dk_at dksX9_skips_1 12 rfl rfl)
theorem dX9_skips_36 : decode cX9_skips 36 = .ok (.putfield 29, 3) := dk_181 0 29 (dk_at dksX9_skips_1 13 rfl rfl)
theorem dX9_skips_39 : decode cX9_skips 39 = .ok (.iload_n 2, 1) := dk_28 (dk_at dksX9_skips_1 16 rfl rfl)
theorem dX9_skips_40 : decode cX9_skips 40 = .ok (.ireturn, 1) := dk_172 (dk_at dksX9_skips_1 17 rfl rfl)
abbrev cX9_readLetter : ByteArray := prog_5_method_8_code
def yX9_readLetter : MethodName := ⟨RX9, "readLetter", "()I"⟩
def dkwX9_readLetter_2 : List UInt8 := [181, 0, 29, 42, 180, 0, 3, 180, 0, 33, 42, 180, 0, 29, 4, 100, 182, 0, 47, 16, 65, 100, 172]
abbrev dktX9_readLetter_2 : List UInt8 := dkwX9_readLetter_2 ++ []
def dkwX9_readLetter_1 : List UInt8 := [167, 0, 4, 3, 181, 0, 25, 42, 180, 0, 25, 153, 0, 5, 3, 172, 42, 89, 180, 0, 29, 4, 96]
abbrev dktX9_readLetter_1 : List UInt8 := dkwX9_readLetter_1 ++ dktX9_readLetter_2
def dkwX9_readLetter_0 : List UInt8 := [42, 42, 180, 0, 25, 154, 0, 17, 42, 182, 0, 51, 16, 65, 16, 68, 184, 0, 59, 154, 0, 7, 4]
abbrev dktX9_readLetter_0 : List UInt8 := dkwX9_readLetter_0 ++ dktX9_readLetter_1
theorem dksX9_readLetter_0 : cX9_readLetter.data.toList.drop 0 = dktX9_readLetter_0 := by decide +kernel
theorem dksX9_readLetter_1 : cX9_readLetter.data.toList.drop 23 = dktX9_readLetter_1 := dk_seg dksX9_readLetter_0 23 rfl rfl
theorem dksX9_readLetter_2 : cX9_readLetter.data.toList.drop 46 = dktX9_readLetter_2 := dk_seg dksX9_readLetter_1 23 rfl rfl
theorem dX9_readLetter_0 : decode cX9_readLetter 0 = .ok (.aload_n 0, 1) := dk_42 (dk_at dksX9_readLetter_0 0 rfl rfl)
theorem dX9_readLetter_1 : decode cX9_readLetter 1 = .ok (.aload_n 0, 1) := dk_42 (dk_at dksX9_readLetter_0 1 rfl rfl)
theorem dX9_readLetter_2 : decode cX9_readLetter 2 = .ok (.getfield 25, 3) := dk_180 0 25 (dk_at dksX9_readLetter_0 2 rfl rfl)
theorem dX9_readLetter_5 : decode cX9_readLetter 5 = .ok (.ifCond .ne 17, 3) := dk_154 0 17 (dk_at dksX9_readLetter_0 5 rfl rfl)
theorem dX9_readLetter_8 : decode cX9_readLetter 8 = .ok (.aload_n 0, 1) := dk_42 (dk_at dksX9_readLetter_0 8 rfl rfl)
theorem dX9_readLetter_9 : decode cX9_readLetter 9 = .ok (.invokevirtual 51, 3) := dk_182 0 51 (dk_at dksX9_readLetter_0 9 rfl rfl)
theorem dX9_readLetter_12 : decode cX9_readLetter 12 = .ok (.bipush 65, 2) := dk_16 65 (dk_at dksX9_readLetter_0 12 rfl rfl)
theorem dX9_readLetter_14 : decode cX9_readLetter 14 = .ok (.bipush 68, 2) := dk_16 68 (dk_at dksX9_readLetter_0 14 rfl rfl)
theorem dX9_readLetter_16 : decode cX9_readLetter 16 = .ok (.invokestatic 59, 3) := dk_184 0 59 (dk_at dksX9_readLetter_0 16 rfl rfl)
theorem dX9_readLetter_19 : decode cX9_readLetter 19 = .ok (.ifCond .ne 7, 3) := dk_154 0 7 (dk_at dksX9_readLetter_0 19 rfl rfl)
theorem dX9_readLetter_22 : decode cX9_readLetter 22 = .ok (.iconst 1, 1) := dk_4 (dk_at dksX9_readLetter_0 22 rfl rfl)
theorem dX9_readLetter_23 : decode cX9_readLetter 23 = .ok (.goto 4, 3) := dk_167 0 4 (dk_at dksX9_readLetter_1 0 rfl rfl)
theorem dX9_readLetter_26 : decode cX9_readLetter 26 = .ok (.iconst 0, 1) := dk_3 (dk_at dksX9_readLetter_1 3 rfl rfl)
theorem dX9_readLetter_27 : decode cX9_readLetter 27 = .ok (.putfield 25, 3) := dk_181 0 25 (dk_at dksX9_readLetter_1 4 rfl rfl)
theorem dX9_readLetter_30 : decode cX9_readLetter 30 = .ok (.aload_n 0, 1) := dk_42 (dk_at dksX9_readLetter_1 7 rfl rfl)
theorem dX9_readLetter_31 : decode cX9_readLetter 31 = .ok (.getfield 25, 3) := dk_180 0 25 (dk_at dksX9_readLetter_1 8 rfl rfl)
theorem dX9_readLetter_34 : decode cX9_readLetter 34 = .ok (.ifCond .eq 5, 3) := dk_153 0 5 (dk_at dksX9_readLetter_1 11 rfl rfl)
theorem dX9_readLetter_37 : decode cX9_readLetter 37 = .ok (.iconst 0, 1) := dk_3 (dk_at dksX9_readLetter_1 14 rfl rfl)
theorem dX9_readLetter_38 : decode cX9_readLetter 38 = .ok (.ireturn, 1) := dk_172 (dk_at dksX9_readLetter_1 15 rfl rfl)
theorem dX9_readLetter_39 : decode cX9_readLetter 39 = .ok (.aload_n 0, 1) := dk_42 (dk_at dksX9_readLetter_1 16 rfl rfl)
theorem dX9_readLetter_40 : decode cX9_readLetter 40 = .ok (.dup, 1) := dk_89 (dk_at dksX9_readLetter_1 17 rfl rfl)
theorem dX9_readLetter_41 : decode cX9_readLetter 41 = .ok (.getfield 29, 3) := dk_180 0 29 (dk_at dksX9_readLetter_1 18 rfl rfl)
theorem dX9_readLetter_44 : decode cX9_readLetter 44 = .ok (.iconst 1, 1) := dk_4 (dk_at dksX9_readLetter_1 21 rfl rfl)
theorem dX9_readLetter_45 : decode cX9_readLetter 45 = .ok (.iadd, 1) := dk_96 (dk_at dksX9_readLetter_1 22 rfl rfl)
theorem dX9_readLetter_46 : decode cX9_readLetter 46 = .ok (.putfield 29, 3) := dk_181 0 29 (dk_at dksX9_readLetter_2 0 rfl rfl)
theorem dX9_readLetter_49 : decode cX9_readLetter 49 = .ok (.aload_n 0, 1) := dk_42 (dk_at dksX9_readLetter_2 3 rfl rfl)
theorem dX9_readLetter_50 : decode cX9_readLetter 50 = .ok (.getfield 3, 3) := dk_180 0 3 (dk_at dksX9_readLetter_2 4 rfl rfl)
theorem dX9_readLetter_53 : decode cX9_readLetter 53 = .ok (.getfield 33, 3) := dk_180 0 33 (dk_at dksX9_readLetter_2 7 rfl rfl)
theorem dX9_readLetter_56 : decode cX9_readLetter 56 = .ok (.aload_n 0, 1) := dk_42 (dk_at dksX9_readLetter_2 10 rfl rfl)
theorem dX9_readLetter_57 : decode cX9_readLetter 57 = .ok (.getfield 29, 3) := dk_180 0 29 (dk_at dksX9_readLetter_2 11 rfl rfl)
theorem dX9_readLetter_60 : decode cX9_readLetter 60 = .ok (.iconst 1, 1) := dk_4 (dk_at dksX9_readLetter_2 14 rfl rfl)
theorem dX9_readLetter_61 : decode cX9_readLetter 61 = .ok (.isub, 1) := dk_100 (dk_at dksX9_readLetter_2 15 rfl rfl)
theorem dX9_readLetter_62 : decode cX9_readLetter 62 = .ok (.invokevirtual 47, 3) := dk_182 0 47 (dk_at dksX9_readLetter_2 16 rfl rfl)
theorem dX9_readLetter_65 : decode cX9_readLetter 65 = .ok (.bipush 65, 2) := dk_16 65 (dk_at dksX9_readLetter_2 19 rfl rfl)
theorem dX9_readLetter_67 : decode cX9_readLetter 67 = .ok (.isub, 1) := dk_100 (dk_at dksX9_readLetter_2 21 rfl rfl)
theorem dX9_readLetter_68 : decode cX9_readLetter 68 = .ok (.ireturn, 1) := dk_172 (dk_at dksX9_readLetter_2 22 rfl rfl)
abbrev cX9_readThing : ByteArray := prog_5_method_9_code
def yX9_readThing : MethodName := ⟨RX9, "readThing", "()I"⟩
def dkwX9_readThing_0 : List UInt8 := [42, 16, 46, 182, 0, 55, 153, 0, 7, 8, 167, 0, 7, 42, 182, 0, 70, 172]
abbrev dktX9_readThing_0 : List UInt8 := dkwX9_readThing_0 ++ []
theorem dksX9_readThing_0 : cX9_readThing.data.toList.drop 0 = dktX9_readThing_0 := by decide +kernel
theorem dX9_readThing_0 : decode cX9_readThing 0 = .ok (.aload_n 0, 1) := dk_42 (dk_at dksX9_readThing_0 0 rfl rfl)
theorem dX9_readThing_1 : decode cX9_readThing 1 = .ok (.bipush 46, 2) := dk_16 46 (dk_at dksX9_readThing_0 1 rfl rfl)
theorem dX9_readThing_3 : decode cX9_readThing 3 = .ok (.invokevirtual 55, 3) := dk_182 0 55 (dk_at dksX9_readThing_0 3 rfl rfl)
theorem dX9_readThing_6 : decode cX9_readThing 6 = .ok (.ifCond .eq 7, 3) := dk_153 0 7 (dk_at dksX9_readThing_0 6 rfl rfl)
theorem dX9_readThing_9 : decode cX9_readThing 9 = .ok (.iconst 5, 1) := dk_8 (dk_at dksX9_readThing_0 9 rfl rfl)
theorem dX9_readThing_10 : decode cX9_readThing 10 = .ok (.goto 7, 3) := dk_167 0 7 (dk_at dksX9_readThing_0 10 rfl rfl)
theorem dX9_readThing_13 : decode cX9_readThing 13 = .ok (.aload_n 0, 1) := dk_42 (dk_at dksX9_readThing_0 13 rfl rfl)
theorem dX9_readThing_14 : decode cX9_readThing 14 = .ok (.invokevirtual 70, 3) := dk_182 0 70 (dk_at dksX9_readThing_0 14 rfl rfl)
theorem dX9_readThing_17 : decode cX9_readThing 17 = .ok (.ireturn, 1) := dk_172 (dk_at dksX9_readThing_0 17 rfl rfl)
abbrev cX9_readSign : ByteArray := prog_5_method_4_code
def yX9_readSign : MethodName := ⟨RX9, "readSign", "(C)V"⟩
def dkwX9_readSign_0 : List UInt8 := [42, 42, 27, 182, 0, 55, 154, 0, 7, 4, 167, 0, 4, 3, 181, 0, 25, 177]
abbrev dktX9_readSign_0 : List UInt8 := dkwX9_readSign_0 ++ []
theorem dksX9_readSign_0 : cX9_readSign.data.toList.drop 0 = dktX9_readSign_0 := by decide +kernel
theorem dX9_readSign_0 : decode cX9_readSign 0 = .ok (.aload_n 0, 1) := dk_42 (dk_at dksX9_readSign_0 0 rfl rfl)
theorem dX9_readSign_1 : decode cX9_readSign 1 = .ok (.aload_n 0, 1) := dk_42 (dk_at dksX9_readSign_0 1 rfl rfl)
theorem dX9_readSign_2 : decode cX9_readSign 2 = .ok (.iload_n 1, 1) := dk_27 (dk_at dksX9_readSign_0 2 rfl rfl)
theorem dX9_readSign_3 : decode cX9_readSign 3 = .ok (.invokevirtual 55, 3) := dk_182 0 55 (dk_at dksX9_readSign_0 3 rfl rfl)
theorem dX9_readSign_6 : decode cX9_readSign 6 = .ok (.ifCond .ne 7, 3) := dk_154 0 7 (dk_at dksX9_readSign_0 6 rfl rfl)
theorem dX9_readSign_9 : decode cX9_readSign 9 = .ok (.iconst 1, 1) := dk_4 (dk_at dksX9_readSign_0 9 rfl rfl)
theorem dX9_readSign_10 : decode cX9_readSign 10 = .ok (.goto 4, 3) := dk_167 0 4 (dk_at dksX9_readSign_0 10 rfl rfl)
theorem dX9_readSign_13 : decode cX9_readSign 13 = .ok (.iconst 0, 1) := dk_3 (dk_at dksX9_readSign_0 13 rfl rfl)
theorem dX9_readSign_14 : decode cX9_readSign 14 = .ok (.putfield 25, 3) := dk_181 0 25 (dk_at dksX9_readSign_0 14 rfl rfl)
theorem dX9_readSign_17 : decode cX9_readSign 17 = .ok (.return_, 1) := dk_177 (dk_at dksX9_readSign_0 17 rfl rfl)
theorem q151 : (Jvm.Cond.initialized "EdgeLetters$CommandReader") ∈ lw_all := lw_g (lw_at lw_m1 33 rfl) rfl
theorem q265 : (Jvm.Cond.selects "EdgeLetters$CommandReader" ({ cls := "java/lang/Object", name := "getClass", desc := "()Ljava/lang/Class;" } : Jvm.MethodName) ({ cls := "java/lang/Object", name := "getClass", desc := "()Ljava/lang/Class;" } : Jvm.MethodName)) ∈ lw_all := lw_g (lw_at lw_m1 147 rfl) rfl
theorem q441 : (Jvm.Cond.fieldLinkNest "EdgeLetters$CommandReader" (33 : Nat) "EdgeLetters" "text" "Ljava/lang/StringBuilder;" "EdgeLetters") ∈ lw_tbl := lw_at lw_m2 83 rfl
theorem q1197 : (Jvm.Cond.instantiable "EdgeLetters$CommandReader" (4 : Nat)) ∈ lw_all := lw_g (lw_at lw_m5 119 rfl) rfl
theorem q1199 : (Jvm.Cond.instanceMethod ({ cls := "EdgeLetters$CommandReader", name := "<init>", desc := "(LEdgeLetters;)V" } : Jvm.MethodName)) ∈ lw_all := lw_g (lw_at lw_m5 121 rfl) rfl
theorem q1200 : (Jvm.Cond.code ({ cls := "EdgeLetters$CommandReader", name := "<init>", desc := "(LEdgeLetters;)V" } : Jvm.MethodName) prog_5_method_1_code (2 : Nat) (Option.none : Option Jvm.ClassFile.FieldType)) ∈ lw_all := lw_g (lw_at lw_m5 122 rfl) rfl
theorem q1201 : (Jvm.Cond.methodLink "EdgeLetters$CommandReader" (9 : Nat) ({ cls := "java/lang/Object", name := "<init>", desc := "()V" } : Jvm.MethodName)) ∈ lw_all := lw_g (lw_at lw_m5 123 rfl) rfl
theorem q1202 : (Jvm.Cond.classLink "EdgeLetters$CommandReader" (15 : Nat) "java/util/ArrayList") ∈ lw_all := lw_g (lw_at lw_m5 124 rfl) rfl
theorem q1203 : (Jvm.Cond.methodLink "EdgeLetters$CommandReader" (17 : Nat) ({ cls := "java/util/ArrayList", name := "<init>", desc := "()V" } : Jvm.MethodName)) ∈ lw_all := lw_g (lw_at lw_m5 125 rfl) rfl
theorem q1204 : (Jvm.Cond.methodLink "EdgeLetters$CommandReader" (22 : Nat) ({ cls := "EdgeLetters$CommandReader", name := "readCommand", desc := "()V" } : Jvm.MethodName)) ∈ lw_all := lw_g (lw_at lw_m5 126 rfl) rfl
theorem q1205 : (Jvm.Cond.privateMethod ({ cls := "EdgeLetters$CommandReader", name := "readCommand", desc := "()V" } : Jvm.MethodName)) ∈ lw_tbl := lw_at lw_m5 127 rfl
theorem q1206 : (Jvm.Cond.instanceMethod ({ cls := "EdgeLetters$CommandReader", name := "readCommand", desc := "()V" } : Jvm.MethodName)) ∈ lw_all := lw_g (lw_at lw_m5 128 rfl) rfl
theorem q1207 : (Jvm.Cond.code ({ cls := "EdgeLetters$CommandReader", name := "readCommand", desc := "()V" } : Jvm.MethodName) prog_5_method_10_code (6 : Nat) (Option.none : Option Jvm.ClassFile.FieldType)) ∈ lw_all := lw_g (lw_at lw_m5 129 rfl) rfl
theorem q1208 : (Jvm.Cond.methodLink "EdgeLetters$CommandReader" (73 : Nat) ({ cls := "EdgeLetters$CommandReader", name := "readNumber", desc := "()I" } : Jvm.MethodName)) ∈ lw_all := lw_g (lw_at lw_m5 130 rfl) rfl
theorem q1209 : (Jvm.Cond.privateMethod ({ cls := "EdgeLetters$CommandReader", name := "readNumber", desc := "()I" } : Jvm.MethodName)) ∈ lw_tbl := lw_at lw_m5 131 rfl
theorem q1210 : (Jvm.Cond.instanceMethod ({ cls := "EdgeLetters$CommandReader", name := "readNumber", desc := "()I" } : Jvm.MethodName)) ∈ lw_all := lw_g (lw_at lw_m5 132 rfl) rfl
theorem q1211 : (Jvm.Cond.code ({ cls := "EdgeLetters$CommandReader", name := "readNumber", desc := "()I" } : Jvm.MethodName) prog_5_method_7_code (2 : Nat) (Option.some Jvm.ClassFile.FieldType.int)) ∈ lw_all := lw_g (lw_at lw_m5 133 rfl) rfl
theorem q1212 : (Jvm.Cond.methodLink "EdgeLetters$CommandReader" (67 : Nat) ({ cls := "EdgeLetters$CommandReader", name := "readDigit", desc := "()I" } : Jvm.MethodName)) ∈ lw_all := lw_g (lw_at lw_m5 134 rfl) rfl
theorem q1213 : (Jvm.Cond.privateMethod ({ cls := "EdgeLetters$CommandReader", name := "readDigit", desc := "()I" } : Jvm.MethodName)) ∈ lw_tbl := lw_at lw_m5 135 rfl
theorem q1214 : (Jvm.Cond.instanceMethod ({ cls := "EdgeLetters$CommandReader", name := "readDigit", desc := "()I" } : Jvm.MethodName)) ∈ lw_all := lw_g (lw_at lw_m5 136 rfl) rfl
theorem q1215 : (Jvm.Cond.code ({ cls := "EdgeLetters$CommandReader", name := "readDigit", desc := "()I" } : Jvm.MethodName) prog_5_method_6_code (1 : Nat) (Option.some Jvm.ClassFile.FieldType.int)) ∈ lw_all := lw_g (lw_at lw_m5 137 rfl) rfl
theorem q1216 : (Jvm.Cond.methodLink "EdgeLetters$CommandReader" (63 : Nat) ({ cls := "EdgeLetters$CommandReader", name := "seesDigit", desc := "()Z" } : Jvm.MethodName)) ∈ lw_all := lw_g (lw_at lw_m5 138 rfl) rfl
theorem q1217 : (Jvm.Cond.privateMethod ({ cls := "EdgeLetters$CommandReader", name := "seesDigit", desc := "()Z" } : Jvm.MethodName)) ∈ lw_tbl := lw_at lw_m5 139 rfl
theorem q1218 : (Jvm.Cond.instanceMethod ({ cls := "EdgeLetters$CommandReader", name := "seesDigit", desc := "()Z" } : Jvm.MethodName)) ∈ lw_all := lw_g (lw_at lw_m5 140 rfl) rfl
theorem q1219 : (Jvm.Cond.code ({ cls := "EdgeLetters$CommandReader", name := "seesDigit", desc := "()Z" } : Jvm.MethodName) prog_5_method_5_code (1 : Nat) (Option.some Jvm.ClassFile.FieldType.boolean)) ∈ lw_all := lw_g (lw_at lw_m5 141 rfl) rfl
theorem q1220 : (Jvm.Cond.methodLink "EdgeLetters$CommandReader" (51 : Nat) ({ cls := "EdgeLetters$CommandReader", name := "next", desc := "()C" } : Jvm.MethodName)) ∈ lw_all := lw_g (lw_at lw_m5 142 rfl) rfl
theorem q1221 : (Jvm.Cond.privateMethod ({ cls := "EdgeLetters$CommandReader", name := "next", desc := "()C" } : Jvm.MethodName)) ∈ lw_tbl := lw_at lw_m5 143 rfl
theorem q1222 : (Jvm.Cond.instanceMethod ({ cls := "EdgeLetters$CommandReader", name := "next", desc := "()C" } : Jvm.MethodName)) ∈ lw_all := lw_g (lw_at lw_m5 144 rfl) rfl
theorem q1223 : (Jvm.Cond.code ({ cls := "EdgeLetters$CommandReader", name := "next", desc := "()C" } : Jvm.MethodName) prog_5_method_2_code (1 : Nat) (Option.some Jvm.ClassFile.FieldType.char)) ∈ lw_all := lw_g (lw_at lw_m5 145 rfl) rfl
theorem q1224 : (Jvm.Cond.methodLink "EdgeLetters$CommandReader" (37 : Nat) ({ cls := "java/lang/StringBuilder", name := "length", desc := "()I" } : Jvm.MethodName)) ∈ lw_all := lw_g (lw_at lw_m5 146 rfl) rfl
theorem q1225 : (Jvm.Cond.methodLink "EdgeLetters$CommandReader" (47 : Nat) ({ cls := "java/lang/StringBuilder", name := "charAt", desc := "(I)C" } : Jvm.MethodName)) ∈ lw_all := lw_g (lw_at lw_m5 147 rfl) rfl
theorem q1238 : (Jvm.Cond.methodLinkNest "EdgeLetters$CommandReader" (59 : Nat) ({ cls := "EdgeLetters", name := "isIn", desc := "(III)Z" } : Jvm.MethodName) "EdgeLetters") ∈ lw_tbl := lw_at lw_m5 160 rfl
theorem q1241 : (Jvm.Cond.stringRef "EdgeLetters$CommandReader" (76 : Nat) "=*:!") ∈ lw_tbl := lw_at lw_m5 163 rfl
theorem q1242 : (Jvm.Cond.methodLink "EdgeLetters$CommandReader" (78 : Nat) ({ cls := "java/lang/String", name := "indexOf", desc := "(I)I" } : Jvm.MethodName)) ∈ lw_all := lw_g (lw_at lw_m5 164 rfl) rfl
theorem q1292 : (Jvm.Cond.methodLink "EdgeLetters$CommandReader" (55 : Nat) ({ cls := "EdgeLetters$CommandReader", name := "skips", desc := "(C)Z" } : Jvm.MethodName)) ∈ lw_all := lw_g (lw_at lw_m5 214 rfl) rfl
theorem q1293 : (Jvm.Cond.privateMethod ({ cls := "EdgeLetters$CommandReader", name := "skips", desc := "(C)Z" } : Jvm.MethodName)) ∈ lw_tbl := lw_at lw_m5 215 rfl
theorem q1294 : (Jvm.Cond.instanceMethod ({ cls := "EdgeLetters$CommandReader", name := "skips", desc := "(C)Z" } : Jvm.MethodName)) ∈ lw_all := lw_g (lw_at lw_m5 216 rfl) rfl
theorem q1295 : (Jvm.Cond.code ({ cls := "EdgeLetters$CommandReader", name := "skips", desc := "(C)Z" } : Jvm.MethodName) prog_5_method_3_code (3 : Nat) (Option.some Jvm.ClassFile.FieldType.boolean)) ∈ lw_all := lw_g (lw_at lw_m5 217 rfl) rfl
theorem q1296 : (Jvm.Cond.methodLink "EdgeLetters$CommandReader" (70 : Nat) ({ cls := "EdgeLetters$CommandReader", name := "readLetter", desc := "()I" } : Jvm.MethodName)) ∈ lw_all := lw_g (lw_at lw_m5 218 rfl) rfl
theorem q1297 : (Jvm.Cond.privateMethod ({ cls := "EdgeLetters$CommandReader", name := "readLetter", desc := "()I" } : Jvm.MethodName)) ∈ lw_tbl := lw_at lw_m5 219 rfl
theorem q1298 : (Jvm.Cond.instanceMethod ({ cls := "EdgeLetters$CommandReader", name := "readLetter", desc := "()I" } : Jvm.MethodName)) ∈ lw_all := lw_g (lw_at lw_m5 220 rfl) rfl
theorem q1299 : (Jvm.Cond.code ({ cls := "EdgeLetters$CommandReader", name := "readLetter", desc := "()I" } : Jvm.MethodName) prog_5_method_8_code (1 : Nat) (Option.some Jvm.ClassFile.FieldType.int)) ∈ lw_all := lw_g (lw_at lw_m5 221 rfl) rfl
theorem q1300 : (Jvm.Cond.methodLink "EdgeLetters$CommandReader" (84 : Nat) ({ cls := "EdgeLetters$CommandReader", name := "readThing", desc := "()I" } : Jvm.MethodName)) ∈ lw_all := lw_g (lw_at lw_m5 222 rfl) rfl
theorem q1301 : (Jvm.Cond.privateMethod ({ cls := "EdgeLetters$CommandReader", name := "readThing", desc := "()I" } : Jvm.MethodName)) ∈ lw_tbl := lw_at lw_m5 223 rfl
theorem q1302 : (Jvm.Cond.instanceMethod ({ cls := "EdgeLetters$CommandReader", name := "readThing", desc := "()I" } : Jvm.MethodName)) ∈ lw_all := lw_g (lw_at lw_m5 224 rfl) rfl
theorem q1303 : (Jvm.Cond.code ({ cls := "EdgeLetters$CommandReader", name := "readThing", desc := "()I" } : Jvm.MethodName) prog_5_method_9_code (1 : Nat) (Option.some Jvm.ClassFile.FieldType.int)) ∈ lw_all := lw_g (lw_at lw_m5 225 rfl) rfl
theorem q1304 : (Jvm.Cond.interfaceEntry "EdgeLetters$CommandReader" (87 : Nat)) ∈ lw_tbl := lw_at lw_m5 226 rfl
theorem q1305 : (Jvm.Cond.methodLink "EdgeLetters$CommandReader" (87 : Nat) ({ cls := "java/util/List", name := "add", desc := "(Ljava/lang/Object;)Z" } : Jvm.MethodName)) ∈ lw_all := lw_g (lw_at lw_m5 227 rfl) rfl
theorem q1306 : (Jvm.Cond.methodLink "EdgeLetters$CommandReader" (43 : Nat) ({ cls := "EdgeLetters$CommandReader", name := "readSign", desc := "(C)V" } : Jvm.MethodName)) ∈ lw_all := lw_g (lw_at lw_m5 228 rfl) rfl
theorem q1307 : (Jvm.Cond.privateMethod ({ cls := "EdgeLetters$CommandReader", name := "readSign", desc := "(C)V" } : Jvm.MethodName)) ∈ lw_tbl := lw_at lw_m5 229 rfl
theorem q1308 : (Jvm.Cond.instanceMethod ({ cls := "EdgeLetters$CommandReader", name := "readSign", desc := "(C)V" } : Jvm.MethodName)) ∈ lw_all := lw_g (lw_at lw_m5 230 rfl) rfl
theorem q1309 : (Jvm.Cond.code ({ cls := "EdgeLetters$CommandReader", name := "readSign", desc := "(C)V" } : Jvm.MethodName) prog_5_method_4_code (2 : Nat) (Option.none : Option Jvm.ClassFile.FieldType)) ∈ lw_all := lw_g (lw_at lw_m5 231 rfl) rfl
theorem q1310 : (Jvm.Cond.fieldLink "EdgeLetters$CommandReader" (18 : Nat) "EdgeLetters$CommandReader" "commands" "Ljava/util/List;") ∈ lw_all := lw_g (lw_at lw_m5 232 rfl) rfl
theorem q1312 : (Jvm.Cond.fieldLink "EdgeLetters$CommandReader" (29 : Nat) "EdgeLetters$CommandReader" "index" "I") ∈ lw_all := lw_g (lw_at lw_m5 234 rfl) rfl
theorem q1314 : (Jvm.Cond.fieldLink "EdgeLetters$CommandReader" (25 : Nat) "EdgeLetters$CommandReader" "isWrong" "Z") ∈ lw_all := lw_g (lw_at lw_m5 236 rfl) rfl
theorem q1316 : (Jvm.Cond.fieldLink "EdgeLetters$CommandReader" (3 : Nat) "EdgeLetters$CommandReader" "this$0" "LEdgeLetters;") ∈ lw_all := lw_g (lw_at lw_m5 238 rfl) rfl
theorem q1317 : (Jvm.Cond.laysFinal "EdgeLetters$CommandReader" "EdgeLetters$CommandReader" "commands" "Ljava/util/List;") ∈ lw_all := lw_g (lw_at lw_m5 239 rfl) rfl
theorem q1318 : (Jvm.Cond.soleField "EdgeLetters$CommandReader" "commands") ∈ lw_all := lw_g (lw_at lw_m6 0 rfl) rfl
theorem q1319 : (Jvm.Cond.lays "EdgeLetters$CommandReader" "EdgeLetters$CommandReader" "index" "I") ∈ lw_all := lw_g (lw_at lw_m6 1 rfl) rfl
theorem q1320 : (Jvm.Cond.soleField "EdgeLetters$CommandReader" "index") ∈ lw_all := lw_g (lw_at lw_m6 2 rfl) rfl
theorem q1321 : (Jvm.Cond.lays "EdgeLetters$CommandReader" "EdgeLetters$CommandReader" "isWrong" "Z") ∈ lw_all := lw_g (lw_at lw_m6 3 rfl) rfl
theorem q1322 : (Jvm.Cond.soleField "EdgeLetters$CommandReader" "isWrong") ∈ lw_all := lw_g (lw_at lw_m6 4 rfl) rfl
theorem q1323 : (Jvm.Cond.laysFinal "EdgeLetters$CommandReader" "EdgeLetters$CommandReader" "this$0" "LEdgeLetters;") ∈ lw_all := lw_g (lw_at lw_m6 5 rfl) rfl
theorem q1324 : (Jvm.Cond.soleField "EdgeLetters$CommandReader" "this$0") ∈ lw_all := lw_g (lw_at lw_m6 6 rfl) rfl
theorem q1325 : (Jvm.Cond.superclass "EdgeLetters$CommandReader" "java/lang/Object") ∈ lw_all := lw_g (lw_at lw_m6 7 rfl) rfl
theorem q2329 : (Jvm.Cond.castable "EdgeLetters$CommandReader" "java/lang/Object") ∈ lw_tbl := lw_at lw_m10 51 rfl
theorem in_X9 : ∀ w ∈ wsX90, w ∈ lw_all := lw_in wsX90 [1317, 1319, 1321, 1323] (by decide +kernel) (by decide +kernel)
