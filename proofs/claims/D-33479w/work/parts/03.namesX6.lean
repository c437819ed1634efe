/-! EdgeLettersModel -/
set_option maxRecDepth 100000
def RX6 : String := "EdgeLettersModel"
def TX6 : u_T := fun k => match k with
  | 0 => ("EdgeLettersModel", "s", "[I", true)
  | 1 => ("EdgeLettersModel", "recorded", "I", false)
  | 2 => ("EdgeLettersModel", "isSlot", "[Z", true)
  | 3 => ("EdgeLettersModel", "text", "[C", true)
  | 4 => ("EdgeLettersModel", "typed", "I", false)
  | 5 => ("EdgeLettersModel", "thrown", "I", false)
  | 6 => ("EdgeLettersModel", "spot", "I", false)
  | 7 => ("EdgeLettersModel", "command", "I", false)
  | 8 => ("EdgeLettersModel", "one", "I", false)
  | 9 => ("EdgeLettersModel", "two", "I", false)
  | 10 => ("EdgeLettersModel", "tableSide", "I", false)
  | 11 => ("EdgeLettersModel", "tableLetters", "I", false)
  | 12 => ("EdgeLettersModel", "tableSize", "I", false)
  | 13 => ("EdgeLettersModel", "table", "[I", true)
  | 14 => ("EdgeLettersModel", "ends", "[I", true)
  | 15 => ("EdgeLettersModel", "w", "[I", true)
  | 16 => ("EdgeLettersModel", "seen", "[I", true)
  | 17 => ("EdgeLettersModel", "seenIn", "[I", true)
  | 18 => ("EdgeLettersModel", "guessed", "[I", true)
  | 19 => ("EdgeLettersModel", "tried", "[I", true)
  | 20 => ("EdgeLettersModel", "found", "[I", true)
  | 21 => ("EdgeLettersModel", "same", "J", false)
  | 22 => ("EdgeLettersModel", "ways", "[I", true)
  | _ => ("EdgeLettersModel", "more", "[I", true)
def tyX6 : Nat → FieldType := fun k => match k with
  | 0 => .array .int
  | 1 => .int
  | 2 => .array .boolean
  | 3 => .array .char
  | 4 => .int
  | 5 => .int
  | 6 => .int
  | 7 => .int
  | 8 => .int
  | 9 => .int
  | 10 => .int
  | 11 => .int
  | 12 => .int
  | 13 => .array .int
  | 14 => .array .int
  | 15 => .array .int
  | 16 => .array .int
  | 17 => .array .int
  | 18 => .array .int
  | 19 => .array .int
  | 20 => .array .int
  | 21 => .long
  | 22 => .array .int
  | _ => .array .int
abbrev wsX60 : List Cond := u_ws RX6 TX6 24
set_option maxRecDepth 100000 in
theorem nmX6 : ∀ a, a < 24 → ∀ b, b < 24 → a ≠ b → (TX6 a).2.1 ≠ (TX6 b).2.1 := by decide +kernel
set_option maxRecDepth 100000 in
theorem tyX6_ok : ∀ k, k < 24 → parseFieldDescriptor (TX6 k).2.2.1 = some (tyX6 k) := by decide +kernel
abbrev cX6_init : ByteArray := prog_10_method_1_code
def yX6_init : MethodName := ⟨RX6, "<init>", "()V"⟩
def dkwX6_init_4 : List UInt8 := [16, 16, 188, 10, 181, 0, 45, 42, 16, 16, 188, 10, 181, 0, 48, 42, 7, 6, 182, 0, 51, 87, 177]
abbrev dktX6_init_4 : List UInt8 := dkwX6_init_4 ++ []
def dkwX6_init_3 : List UInt8 := [16, 27, 188, 10, 181, 0, 36, 42, 16, 27, 188, 10, 181, 0, 39, 42, 16, 25, 188, 10, 181, 0, 42, 42]
abbrev dktX6_init_3 : List UInt8 := dkwX6_init_3 ++ dktX6_init_4
def dkwX6_init_2 : List UInt8 := [17, 2, 238, 188, 10, 181, 0, 27, 42, 8, 188, 10, 181, 0, 30, 42, 16, 60, 188, 10, 181, 0, 33, 42]
abbrev dktX6_init_2 : List UInt8 := dkwX6_init_2 ++ dktX6_init_3
def dkwX6_init_1 : List UInt8 := [188, 5, 181, 0, 17, 42, 17, 2, 93, 188, 10, 181, 0, 21, 42, 17, 1, 224, 188, 10, 181, 0, 24, 42]
abbrev dktX6_init_1 : List UInt8 := dkwX6_init_1 ++ dktX6_init_2
def dkwX6_init_0 : List UInt8 := [42, 183, 0, 1, 42, 17, 1, 176, 188, 10, 181, 0, 7, 42, 5, 188, 4, 181, 0, 13, 42, 16, 80]
abbrev dktX6_init_0 : List UInt8 := dkwX6_init_0 ++ dktX6_init_1
theorem dksX6_init_0 : cX6_init.data.toList.drop 0 = dktX6_init_0 := by decide +kernel
theorem dksX6_init_1 : cX6_init.data.toList.drop 23 = dktX6_init_1 := dk_seg dksX6_init_0 23 rfl rfl
theorem dksX6_init_2 : cX6_init.data.toList.drop 47 = dktX6_init_2 := dk_seg dksX6_init_1 24 rfl rfl
theorem dksX6_init_3 : cX6_init.data.toList.drop 71 = dktX6_init_3 := dk_seg dksX6_init_2 24 rfl rfl
theorem dksX6_init_4 : cX6_init.data.toList.drop 95 = dktX6_init_4 := dk_seg dksX6_init_3 24 rfl rfl
theorem dX6_init_0 : decode cX6_init 0 = .ok (.aload_n 0, 1) := dk_42 (dk_at dksX6_init_0 0 rfl rfl)
theorem dX6_init_1 : decode cX6_init 1 = .ok (.invokespecial 1, 3) := dk_183 0 1 (dk_at dksX6_init_0 1 rfl rfl)
theorem dX6_init_4 : decode cX6_init 4 = .ok (.aload_n 0, 1) := dk_42 (dk_at dksX6_init_0 4 rfl rfl)
theorem dX6_init_5 : decode cX6_init 5 = .ok (.sipush 432, 3) := dk_17 1 176 (dk_at dksX6_init_0 5 rfl rfl)
theorem dX6_init_8 : decode cX6_init 8 = .ok (.newarray .int, 2) := dk_188_10 (dk_at dksX6_init_0 8 rfl rfl)
theorem dX6_init_10 : decode cX6_init 10 = .ok (.putfield 7, 3) := dk_181 0 7 (dk_at dksX6_init_0 10 rfl rfl)
theorem dX6_init_13 : decode cX6_init 13 = .ok (.aload_n 0, 1) := dk_42 (dk_at dksX6_init_0 13 rfl rfl)
theorem dX6_init_14 : decode cX6_init 14 = .ok (.iconst 2, 1) := dk_5 (dk_at dksX6_init_0 14 rfl rfl)
theorem dX6_init_15 : decode cX6_init 15 = .ok (.newarray .boolean, 2) := dk_188_4 (dk_at dksX6_init_0 15 rfl rfl)
theorem dX6_init_17 : decode cX6_init 17 = .ok (.putfield 13, 3) := dk_181 0 13 (dk_at dksX6_init_0 17 rfl rfl)
theorem dX6_init_20 : decode cX6_init 20 = .ok (.aload_n 0, 1) := dk_42 (dk_at dksX6_init_0 20 rfl rfl)
theorem dX6_init_21 : decode cX6_init 21 = .ok (.bipush 80, 2) := dk_16 80 (dk_at dksX6_init_0 21 rfl rfl)
theorem dX6_init_23 : decode cX6_init 23 = .ok (.newarray .char, 2) := dk_188_5 (dk_at dksX6_init_1 0 rfl rfl)
theorem dX6_init_25 : decode cX6_init 25 = .ok (.putfield 17, 3) := dk_181 0 17 (dk_at dksX6_init_1 2 rfl rfl)
theorem dX6_init_28 : decode cX6_init 28 = .ok (.aload_n 0, 1) := dk_42 (dk_at dksX6_init_1 5 rfl rfl)
theorem dX6_init_29 : decode cX6_init 29 = .ok (.sipush 605, 3) := dk_17 2 93 (dk_at dksX6_init_1 6 rfl rfl)
theorem dX6_init_32 : decode cX6_init 32 = .ok (.newarray .int, 2) := dk_188_10 (dk_at dksX6_init_1 9 rfl rfl)
theorem dX6_init_34 : decode cX6_init 34 = .ok (.putfield 21, 3) := dk_181 0 21 (dk_at dksX6_init_1 11 rfl rfl)
theorem dX6_init_37 : decode cX6_init 37 = .ok (.aload_n 0, 1) := dk_42 (dk_at dksX6_init_1 14 rfl rfl)
theorem dX6_init_38 : decode cX6_init 38 = .ok (.sipush 480, 3) := dk_17 1 224 (dk_at dksX6_init_1 15 rfl rfl)
theorem dX6_init_41 : decode cX6_init 41 = .ok (.newarray .int, 2) := dk_188_10 (dk_at dksX6_init_1 18 rfl rfl)
theorem dX6_init_43 : decode cX6_init 43 = .ok (.putfield 24, 3) := dk_181 0 24 (dk_at dksX6_init_1 20 rfl rfl)
theorem dX6_init_46 : decode cX6_init 46 = .ok (.aload_n 0, 1) := dk_42 (dk_at dksX6_init_1 23 rfl rfl)
theorem dX6_init_47 : decode cX6_init 47 = .ok (.sipush 750, 3) := dk_17 2 238 (dk_at dksX6_init_2 0 rfl rfl)
theorem dX6_init_50 : decode cX6_init 50 = .ok (.newarray .int, 2) := dk_188_10 (dk_at dksX6_init_2 3 rfl rfl)
theorem dX6_init_52 : decode cX6_init 52 = .ok (.putfield 27, 3) := dk_181 0 27 (dk_at dksX6_init_2 5 rfl rfl)
theorem dX6_init_55 : decode cX6_init 55 = .ok (.aload_n 0, 1) := dk_42 (dk_at dksX6_init_2 8 rfl rfl)
theorem dX6_init_56 : decode cX6_init 56 = .ok (.iconst 5, 1) := dk_8 (dk_at dksX6_init_2 9 rfl rfl)
theorem dX6_init_57 : decode cX6_init 57 = .ok (.newarray .int, 2) := dk_188_10 (dk_at dksX6_init_2 10 rfl rfl)
theorem dX6_init_59 : decode cX6_init 59 = .ok (.putfield 30, 3) := dk_181 0 30 (dk_at dksX6_init_2 12 rfl rfl)
theorem dX6_init_62 : decode cX6_init 62 = .ok (.aload_n 0, 1) := dk_42 (dk_at dksX6_init_2 15 rfl rfl)
theorem dX6_init_63 : decode cX6_init 63 = .ok (.bipush 60, 2) := dk_16 60 (dk_at dksX6_init_2 16 rfl rfl)
theorem dX6_init_65 : decode cX6_init 65 = .ok (.newarray .int, 2) := dk_188_10 (dk_at dksX6_init_2 18 rfl rfl)
theorem dX6_init_67 : decode cX6_init 67 = .ok (.putfield 33, 3) := dk_181 0 33 (dk_at dksX6_init_2 20 rfl rfl)
theorem dX6_init_70 : decode cX6_init 70 = .ok (.aload_n 0, 1) := dk_42 (dk_at dksX6_init_2 23 rfl rfl)
theorem dX6_init_71 : decode cX6_init 71 = .ok (.bipush 27, 2) := dk_16 27 (dk_at dksX6_init_3 0 rfl rfl)
theorem dX6_init_73 : decode cX6_init 73 = .ok (.newarray .int, 2) := dk_188_10 (dk_at dksX6_init_3 2 rfl rfl)
theorem dX6_init_75 : decode cX6_init 75 = .ok (.putfield 36, 3) := dk_181 0 36 (dk_at dksX6_init_3 4 rfl rfl)
theorem dX6_init_78 : decode cX6_init 78 = .ok (.aload_n 0, 1) := dk_42 (dk_at dksX6_init_3 7 rfl rfl)
theorem dX6_init_79 : decode cX6_init 79 = .ok (.bipush 27, 2) := dk_16 27 (dk_at dksX6_init_3 8 rfl rfl)
theorem dX6_init_81 : decode cX6_init 81 = .ok (.newarray .int, 2) := dk_188_10 (dk_at dksX6_init_3 10 rfl rfl)
theorem dX6_init_83 : decode cX6_init 83 = .ok (.putfield 39, 3) := dk_181 0 39 (dk_at dksX6_init_3 12 rfl rfl)
theorem dX6_init_86 : decode cX6_init 86 = .ok (.aload_n 0, 1) := dk_42 (dk_at dksX6_init_3 15 rfl rfl)
theorem dX6_init_87 : decode cX6_init 87 = .ok (.bipush 25, 2) := dk_16 25 (dk_at dksX6_init_3 16 rfl rfl)
theorem dX6_init_89 : decode cX6_init 89 = .ok (.newarray .int, 2) := dk_188_10 (dk_at dksX6_init_3 18 rfl rfl)
theorem dX6_init_91 : decode cX6_init 91 = .ok (.putfield 42, 3) := dk_181 0 42 (dk_at dksX6_init_3 20 rfl rfl)
theorem dX6_init_94 : decode cX6_init 94 = .ok (.aload_n 0, 1) := dk_42 (dk_at dksX6_init_3 23 rfl rfl)
theorem dX6_init_95 : decode cX6_init 95 = .ok (.bipush 16, 2) := dk_16 16 (dk_at dksX6_init_4 0 rfl rfl)
theorem dX6_init_97 : decode cX6_init 97 = .ok (.newarray .int, 2) := dk_188_10 (dk_at dksX6_init_4 2 rfl rfl)
theorem dX6_init_99 : decode cX6_init 99 = .ok (.putfield 45, 3) := dk_181 0 45 (dk_at dksX6_init_4 4 rfl rfl)
theorem dX6_init_102 : decode cX6_init 102 = .ok (.aload_n 0, 1) := dk_42 (dk_at dksX6_init_4 7 rfl rfl)
theorem dX6_init_103 : decode cX6_init 103 = .ok (.bipush 16, 2) := dk_16 16 (dk_at dksX6_init_4 8 rfl rfl)
theorem dX6_init_105 : decode cX6_init 105 = .ok (.newarray .int, 2) := dk_188_10 (dk_at dksX6_init_4 10 rfl rfl)
theorem dX6_init_107 : decode cX6_init 107 = .ok (.putfield 48, 3) := dk_181 0 48 (dk_at dksX6_init_4 12 rfl rfl)
theorem dX6_init_110 : decode cX6_init 110 = .ok (.aload_n 0, 1) := dk_42 (dk_at dksX6_init_4 15 rfl rfl)
theorem dX6_init_111 : decode cX6_init 111 = .ok (.iconst 4, 1) := dk_7 (dk_at dksX6_init_4 16 rfl rfl)
theorem dX6_init_112 : decode cX6_init 112 = .ok (.iconst 3, 1) := dk_6 (dk_at dksX6_init_4 17 rfl rfl)
theorem dX6_init_113 : decode cX6_init 113 = .ok (.invokevirtual 51, 3) := dk_182 0 51 (dk_at dksX6_init_4 18 rfl rfl)
theorem dX6_init_116 : decode cX6_init 116 = .ok (.pop, 1) := dk_87 (dk_at dksX6_init_4 21 rfl rfl)
theorem dX6_init_117 : decode cX6_init 117 = .ok (.return_, 1) := dk_177 (dk_at dksX6_init_4 22 rfl rfl)
abbrev cX6_begins : ByteArray := prog_10_method_27_code
def yX6_begins : MethodName := ⟨RX6, "begins", "(II)I"⟩
def dkwX6_begins_3 : List UInt8 := [42, 182, 0, 66, 172]
abbrev dktX6_begins_3 : List UInt8 := dkwX6_begins_3 ++ []
def dkwX6_begins_2 : List UInt8 := [16, 25, 162, 0, 22, 42, 180, 0, 7, 16, 23, 29, 96, 42, 182, 0, 84, 79, 132, 3, 1, 167, 255, 234]
abbrev dktX6_begins_2 : List UInt8 := dkwX6_begins_2 ++ dktX6_begins_3
def dkwX6_begins_1 : List UInt8 := [16, 20, 162, 0, 18, 42, 180, 0, 7, 6, 29, 96, 3, 79, 132, 3, 1, 167, 255, 238, 3, 62, 29]
abbrev dktX6_begins_1 : List UInt8 := dkwX6_begins_1 ++ dktX6_begins_2
def dkwX6_begins_0 : List UInt8 := [42, 180, 0, 7, 3, 27, 79, 42, 180, 0, 7, 4, 28, 79, 42, 180, 0, 7, 5, 3, 79, 3, 62, 29]
abbrev dktX6_begins_0 : List UInt8 := dkwX6_begins_0 ++ dktX6_begins_1
theorem dksX6_begins_0 : cX6_begins.data.toList.drop 0 = dktX6_begins_0 := by decide +kernel
theorem dksX6_begins_1 : cX6_begins.data.toList.drop 24 = dktX6_begins_1 := dk_seg dksX6_begins_0 24 rfl rfl
theorem dksX6_begins_2 : cX6_begins.data.toList.drop 47 = dktX6_begins_2 := dk_seg dksX6_begins_1 23 rfl rfl
theorem dksX6_begins_3 : cX6_begins.data.toList.drop 71 = dktX6_begins_3 := dk_seg dksX6_begins_2 24 rfl rfl
theorem dX6_begins_0 : decode cX6_begins 0 = .ok (.aload_n 0, 1) := dk_42 (dk_at dksX6_begins_0 0 rfl rfl)
theorem dX6_begins_1 : decode cX6_begins 1 = .ok (.getfield 7, 3) := dk_180 0 7 (dk_at dksX6_begins_0 1 rfl rfl)
theorem dX6_begins_4 : decode cX6_begins 4 = .ok (.iconst 0, 1) := dk_3 (dk_at dksX6_begins_0 4 rfl rfl)
theorem dX6_begins_5 : decode cX6_begins 5 = .ok (.iload_n 1, 1) := dk_27 (dk_at dksX6_begins_0 5 rfl rfl)
theorem dX6_begins_6 : decode cX6_begins 6 = .ok (.iastore, 1) := dk_79 (dk_at dksX6_begins_0 6 rfl rfl)
theorem dX6_begins_7 : decode cX6_begins 7 = .ok (.aload_n 0, 1) := dk_42 (dk_at dksX6_begins_0 7 rfl rfl)
theorem dX6_begins_8 : decode cX6_begins 8 = .ok (.getfield 7, 3) := dk_180 0 7 (dk_at dksX6_begins_0 8 rfl rfl)
theorem dX6_begins_11 : decode cX6_begins 11 = .ok (.iconst 1, 1) := dk_4 (dk_at dksX6_begins_0 11 rfl rfl)
theorem dX6_begins_12 : decode cX6_begins 12 = .ok (.iload_n 2, 1) := dk_28 (dk_at dksX6_begins_0 12 rfl rfl)
theorem dX6_begins_13 : decode cX6_begins 13 = .ok (.iastore, 1) := dk_79 (dk_at dksX6_begins_0 13 rfl rfl)
theorem dX6_begins_14 : decode cX6_begins 14 = .ok (.aload_n 0, 1) := dk_42 (dk_at dksX6_begins_0 14 rfl rfl)
theorem dX6_begins_15 : decode cX6_begins 15 = .ok (.getfield 7, 3) := dk_180 0 7 (dk_at dksX6_begins_0 15 rfl rfl)
theorem dX6_begins_18 : decode cX6_begins 18 = .ok (.iconst 2, 1) := dk_5 (dk_at dksX6_begins_0 18 rfl rfl)
theorem dX6_begins_19 : decode cX6_begins 19 = .ok (.iconst 0, 1) := dk_3 (dk_at dksX6_begins_0 19 rfl rfl)
theorem dX6_begins_20 : decode cX6_begins 20 = .ok (.iastore, 1) := dk_79 (dk_at dksX6_begins_0 20 rfl rfl)
theorem dX6_begins_21 : decode cX6_begins 21 = .ok (.iconst 0, 1) := dk_3 (dk_at dksX6_begins_0 21 rfl rfl)
theorem dX6_begins_22 : decode cX6_begins 22 = .ok (.istore_n 3, 1) := dk_62 (dk_at dksX6_begins_0 22 rfl rfl)
theorem dX6_begins_23 : decode cX6_begins 23 = .ok (.iload_n 3, 1) := dk_29 (dk_at dksX6_begins_0 23 rfl rfl)
theorem dX6_begins_24 : decode cX6_begins 24 = .ok (.bipush 20, 2) := dk_16 20 (dk_at dksX6_begins_1 0 rfl rfl)
theorem dX6_begins_26 : decode cX6_begins 26 = .ok (.if_icmp .ge 18, 3) := dk_162 0 18 (dk_at dksX6_begins_1 2 rfl rfl)
theorem dX6_begins_29 : decode cX6_begins 29 = .ok (.aload_n 0, 1) := dk_42 (dk_at dksX6_begins_1 5 rfl rfl)
theorem dX6_begins_30 : decode cX6_begins 30 = .ok (.getfield 7, 3) := dk_180 0 7 (dk_at dksX6_begins_1 6 rfl rfl)
theorem dX6_begins_33 : decode cX6_begins 33 = .ok (.iconst 3, 1) := dk_6 (dk_at dksX6_begins_1 9 rfl rfl)
theorem dX6_begins_34 : decode cX6_begins 34 = .ok (.iload_n 3, 1) := dk_29 (dk_at dksX6_begins_1 10 rfl rfl)
theorem dX6_begins_35 : decode cX6_begins 35 = .ok (.iadd, 1) := dk_96 (dk_at dksX6_begins_1 11 rfl rfl)
theorem dX6_begins_36 : decode cX6_begins 36 = .ok (.iconst 0, 1) := dk_3 (dk_at dksX6_begins_1 12 rfl rfl)
theorem dX6_begins_37 : decode cX6_begins 37 = .ok (.iastore, 1) := dk_79 (dk_at dksX6_begins_1 13 rfl rfl)
theorem dX6_begins_38 : decode cX6_begins 38 = .ok (.iinc 3 1, 3) := dk_132 3 1 (dk_at dksX6_begins_1 14 rfl rfl)
theorem dX6_begins_41 : decode cX6_begins 41 = .ok (.goto (-18), 3) := dk_167 255 238 (dk_at dksX6_begins_1 17 rfl rfl)
theorem dX6_begins_44 : decode cX6_begins 44 = .ok (.iconst 0, 1) := dk_3 (dk_at dksX6_begins_1 20 rfl rfl)
theorem dX6_begins_45 : decode cX6_begins 45 = .ok (.istore_n 3, 1) := dk_62 (dk_at dksX6_begins_1 21 rfl rfl)
theorem dX6_begins_46 : decode cX6_begins 46 = .ok (.iload_n 3, 1) := dk_29 (dk_at dksX6_begins_1 22 rfl rfl)
theorem dX6_begins_47 : decode cX6_begins 47 = .ok (.bipush 25, 2) := dk_16 25 (dk_at dksX6_begins_2 0 rfl rfl)
theorem dX6_begins_49 : decode cX6_begins 49 = .ok (.if_icmp .ge 22, 3) := dk_162 0 22 (dk_at dksX6_begins_2 2 rfl rfl)
theorem dX6_begins_52 : decode cX6_begins 52 = .ok (.aload_n 0, 1) := dk_42 (dk_at dksX6_begins_2 5 rfl rfl)
theorem dX6_begins_53 : decode cX6_begins 53 = .ok (.getfield 7, 3) := dk_180 0 7 (dk_at dksX6_begins_2 6 rfl rfl)
theorem dX6_begins_56 : decode cX6_begins 56 = .ok (.bipush 23, 2) := dk_16 23 (dk_at dksX6_begins_2 9 rfl rfl)
theorem dX6_begins_58 : decode cX6_begins 58 = .ok (.iload_n 3, 1) := dk_29 (dk_at dksX6_begins_2 11 rfl rfl)
theorem dX6_begins_59 : decode cX6_begins 59 = .ok (.iadd, 1) := dk_96 (dk_at dksX6_begins_2 12 rfl rfl)
theorem dX6_begins_60 : decode cX6_begins 60 = .ok (.aload_n 0, 1) := dk_42 (dk_at dksX6_begins_2 13 rfl rfl)
theorem dX6_begins_61 : decode cX6_begins 61 = .ok (.invokevirtual 84, 3) := dk_182 0 84 (dk_at dksX6_begins_2 14 rfl rfl)
theorem dX6_begins_64 : decode cX6_begins 64 = .ok (.iastore, 1) := dk_79 (dk_at dksX6_begins_2 17 rfl rfl)
theorem dX6_begins_65 : decode cX6_begins 65 = .ok (.iinc 3 1, 3) := dk_132 3 1 (dk_at dksX6_begins_2 18 rfl rfl)
theorem dX6_begins_68 : decode cX6_begins 68 = .ok (.goto (-22), 3) := dk_167 255 234 (dk_at dksX6_begins_2 21 rfl rfl)
theorem dX6_begins_71 : decode cX6_begins 71 = .ok (.aload_n 0, 1) := dk_42 (dk_at dksX6_begins_3 0 rfl rfl)
theorem dX6_begins_72 : decode cX6_begins 72 = .ok (.invokevirtual 66, 3) := dk_182 0 66 (dk_at dksX6_begins_3 1 rfl rfl)
theorem dX6_begins_75 : decode cX6_begins 75 = .ok (.ireturn, 1) := dk_172 (dk_at dksX6_begins_3 4 rfl rfl)
abbrev cX6_all : ByteArray := prog_10_method_12_code
def yX6_all : MethodName := ⟨RX6, "all", "()I"⟩
def dkwX6_all_0 : List UInt8 := [4, 42, 180, 0, 7, 4, 46, 4, 96, 120, 4, 100, 172]
abbrev dktX6_all_0 : List UInt8 := dkwX6_all_0 ++ []
theorem dksX6_all_0 : cX6_all.data.toList.drop 0 = dktX6_all_0 := by decide +kernel
theorem dX6_all_0 : decode cX6_all 0 = .ok (.iconst 1, 1) := dk_4 (dk_at dksX6_all_0 0 rfl rfl)
theorem dX6_all_1 : decode cX6_all 1 = .ok (.aload_n 0, 1) := dk_42 (dk_at dksX6_all_0 1 rfl rfl)
theorem dX6_all_2 : decode cX6_all 2 = .ok (.getfield 7, 3) := dk_180 0 7 (dk_at dksX6_all_0 2 rfl rfl)
theorem dX6_all_5 : decode cX6_all 5 = .ok (.iconst 1, 1) := dk_4 (dk_at dksX6_all_0 5 rfl rfl)
theorem dX6_all_6 : decode cX6_all 6 = .ok (.iaload, 1) := dk_46 (dk_at dksX6_all_0 6 rfl rfl)
theorem dX6_all_7 : decode cX6_all 7 = .ok (.iconst 1, 1) := dk_4 (dk_at dksX6_all_0 7 rfl rfl)
theorem dX6_all_8 : decode cX6_all 8 = .ok (.iadd, 1) := dk_96 (dk_at dksX6_all_0 8 rfl rfl)
theorem dX6_all_9 : decode cX6_all 9 = .ok (.ishl, 1) := dk_120 (dk_at dksX6_all_0 9 rfl rfl)
theorem dX6_all_10 : decode cX6_all 10 = .ok (.iconst 1, 1) := dk_4 (dk_at dksX6_all_0 10 rfl rfl)
theorem dX6_all_11 : decode cX6_all 11 = .ok (.isub, 1) := dk_100 (dk_at dksX6_all_0 11 rfl rfl)
theorem dX6_all_12 : decode cX6_all 12 = .ok (.ireturn, 1) := dk_172 (dk_at dksX6_all_0 12 rfl rfl)
abbrev cX6_cells : ByteArray := prog_10_method_9_code
def yX6_cells : MethodName := ⟨RX6, "cells", "()I"⟩
def dkwX6_cells_0 : List UInt8 := [42, 180, 0, 7, 3, 46, 42, 180, 0, 7, 3, 46, 104, 172]
abbrev dktX6_cells_0 : List UInt8 := dkwX6_cells_0 ++ []
theorem dksX6_cells_0 : cX6_cells.data.toList.drop 0 = dktX6_cells_0 := by decide +kernel
theorem dX6_cells_0 : decode cX6_cells 0 = .ok (.aload_n 0, 1) := dk_42 (dk_at dksX6_cells_0 0 rfl rfl)
theorem dX6_cells_1 : decode cX6_cells 1 = .ok (.getfield 7, 3) := dk_180 0 7 (dk_at dksX6_cells_0 1 rfl rfl)
theorem dX6_cells_4 : decode cX6_cells 4 = .ok (.iconst 0, 1) := dk_3 (dk_at dksX6_cells_0 4 rfl rfl)
theorem dX6_cells_5 : decode cX6_cells 5 = .ok (.iaload, 1) := dk_46 (dk_at dksX6_cells_0 5 rfl rfl)
theorem dX6_cells_6 : decode cX6_cells 6 = .ok (.aload_n 0, 1) := dk_42 (dk_at dksX6_cells_0 6 rfl rfl)
theorem dX6_cells_7 : decode cX6_cells 7 = .ok (.getfield 7, 3) := dk_180 0 7 (dk_at dksX6_cells_0 7 rfl rfl)
theorem dX6_cells_10 : decode cX6_cells 10 = .ok (.iconst 0, 1) := dk_3 (dk_at dksX6_cells_0 10 rfl rfl)
theorem dX6_cells_11 : decode cX6_cells 11 = .ok (.iaload, 1) := dk_46 (dk_at dksX6_cells_0 11 rfl rfl)
theorem dX6_cells_12 : decode cX6_cells 12 = .ok (.imul, 1) := dk_104 (dk_at dksX6_cells_0 12 rfl rfl)
theorem dX6_cells_13 : decode cX6_cells 13 = .ok (.ireturn, 1) := dk_172 (dk_at dksX6_cells_0 13 rfl rfl)
abbrev cX6_thrown : ByteArray := prog_10_method_2_code
def yX6_thrown : MethodName := ⟨RX6, "thrown", "()I"⟩
theorem dX6_thrown_0 : decode cX6_thrown 0 = .ok (.aload_n 0, 1) := by decide +kernel
theorem dX6_thrown_1 : decode cX6_thrown 1 = .ok (.getfield 55, 3) := by decide +kernel
theorem dX6_thrown_4 : decode cX6_thrown 4 = .ok (.ireturn, 1) := by decide +kernel
abbrev cX6_start : ByteArray := prog_10_method_58_code
def yX6_start : MethodName := ⟨RX6, "start", "(II)I"⟩
def dkwX6_start_2 : List UInt8 := [172]
abbrev dktX6_start_2 : List UInt8 := dkwX6_start_2 ++ []
def dkwX6_start_1 : List UInt8 := [167, 0, 4, 3, 4, 4, 182, 0, 210, 154, 0, 5, 3, 172, 42, 182, 0, 214, 42, 27, 28, 182, 0, 51]
abbrev dktX6_start_1 : List UInt8 := dkwX6_start_1 ++ dktX6_start_2
def dkwX6_start_0 : List UInt8 := [42, 27, 7, 8, 184, 0, 70, 153, 0, 18, 28, 5, 27, 4, 100, 184, 0, 70, 153, 0, 7, 4]
abbrev dktX6_start_0 : List UInt8 := dkwX6_start_0 ++ dktX6_start_1
theorem dksX6_start_0 : cX6_start.data.toList.drop 0 = dktX6_start_0 := by decide +kernel
theorem dksX6_start_1 : cX6_start.data.toList.drop 22 = dktX6_start_1 := dk_seg dksX6_start_0 22 rfl rfl
theorem dksX6_start_2 : cX6_start.data.toList.drop 46 = dktX6_start_2 := dk_seg dksX6_start_1 24 rfl rfl
theorem dX6_start_0 : decode cX6_start 0 = .ok (.aload_n 0, 1) := dk_42 (dk_at dksX6_start_0 0 rfl rfl)
theorem dX6_start_1 : decode cX6_start 1 = .ok (.iload_n 1, 1) := dk_27 (dk_at dksX6_start_0 1 rfl rfl)
theorem dX6_start_2 : decode cX6_start 2 = .ok (.iconst 4, 1) := dk_7 (dk_at dksX6_start_0 2 rfl rfl)
theorem dX6_start_3 : decode cX6_start 3 = .ok (.iconst 5, 1) := dk_8 (dk_at dksX6_start_0 3 rfl rfl)
theorem dX6_start_4 : decode cX6_start 4 = .ok (.invokestatic 70, 3) := dk_184 0 70 (dk_at dksX6_start_0 4 rfl rfl)
theorem dX6_start_7 : decode cX6_start 7 = .ok (.ifCond .eq 18, 3) := dk_153 0 18 (dk_at dksX6_start_0 7 rfl rfl)
theorem dX6_start_10 : decode cX6_start 10 = .ok (.iload_n 2, 1) := dk_28 (dk_at dksX6_start_0 10 rfl rfl)
theorem dX6_start_11 : decode cX6_start 11 = .ok (.iconst 2, 1) := dk_5 (dk_at dksX6_start_0 11 rfl rfl)
theorem dX6_start_12 : decode cX6_start 12 = .ok (.iload_n 1, 1) := dk_27 (dk_at dksX6_start_0 12 rfl rfl)
theorem dX6_start_13 : decode cX6_start 13 = .ok (.iconst 1, 1) := dk_4 (dk_at dksX6_start_0 13 rfl rfl)
theorem dX6_start_14 : decode cX6_start 14 = .ok (.isub, 1) := dk_100 (dk_at dksX6_start_0 14 rfl rfl)
theorem dX6_start_15 : decode cX6_start 15 = .ok (.invokestatic 70, 3) := dk_184 0 70 (dk_at dksX6_start_0 15 rfl rfl)
theorem dX6_start_18 : decode cX6_start 18 = .ok (.ifCond .eq 7, 3) := dk_153 0 7 (dk_at dksX6_start_0 18 rfl rfl)
theorem dX6_start_21 : decode cX6_start 21 = .ok (.iconst 1, 1) := dk_4 (dk_at dksX6_start_0 21 rfl rfl)
theorem dX6_start_22 : decode cX6_start 22 = .ok (.goto 4, 3) := dk_167 0 4 (dk_at dksX6_start_1 0 rfl rfl)
theorem dX6_start_25 : decode cX6_start 25 = .ok (.iconst 0, 1) := dk_3 (dk_at dksX6_start_1 3 rfl rfl)
theorem dX6_start_26 : decode cX6_start 26 = .ok (.iconst 1, 1) := dk_4 (dk_at dksX6_start_1 4 rfl rfl)
theorem dX6_start_27 : decode cX6_start 27 = .ok (.iconst 1, 1) := dk_4 (dk_at dksX6_start_1 5 rfl rfl)
theorem dX6_start_28 : decode cX6_start 28 = .ok (.invokevirtual 210, 3) := dk_182 0 210 (dk_at dksX6_start_1 6 rfl rfl)
theorem dX6_start_31 : decode cX6_start 31 = .ok (.ifCond .ne 5, 3) := dk_154 0 5 (dk_at dksX6_start_1 9 rfl rfl)
theorem dX6_start_34 : decode cX6_start 34 = .ok (.iconst 0, 1) := dk_3 (dk_at dksX6_start_1 12 rfl rfl)
theorem dX6_start_35 : decode cX6_start 35 = .ok (.ireturn, 1) := dk_172 (dk_at dksX6_start_1 13 rfl rfl)
theorem dX6_start_36 : decode cX6_start 36 = .ok (.aload_n 0, 1) := dk_42 (dk_at dksX6_start_1 14 rfl rfl)
theorem dX6_start_37 : decode cX6_start 37 = .ok (.invokevirtual 214, 3) := dk_182 0 214 (dk_at dksX6_start_1 15 rfl rfl)
theorem dX6_start_40 : decode cX6_start 40 = .ok (.aload_n 0, 1) := dk_42 (dk_at dksX6_start_1 18 rfl rfl)
theorem dX6_start_41 : decode cX6_start 41 = .ok (.iload_n 1, 1) := dk_27 (dk_at dksX6_start_1 19 rfl rfl)
theorem dX6_start_42 : decode cX6_start 42 = .ok (.iload_n 2, 1) := dk_28 (dk_at dksX6_start_1 20 rfl rfl)
theorem dX6_start_43 : decode cX6_start 43 = .ok (.invokevirtual 51, 3) := dk_182 0 51 (dk_at dksX6_start_1 21 rfl rfl)
theorem dX6_start_46 : decode cX6_start 46 = .ok (.ireturn, 1) := dk_172 (dk_at dksX6_start_2 0 rfl rfl)
abbrev cX6_in : ByteArray := prog_10_method_3_code
def yX6_in : MethodName := ⟨RX6, "in", "(III)Z"⟩
def dkwX6_in_0 : List UInt8 := [26, 27, 161, 0, 12, 26, 28, 163, 0, 7, 4, 167, 0, 4, 3, 172]
abbrev dktX6_in_0 : List UInt8 := dkwX6_in_0 ++ []
theorem dksX6_in_0 : cX6_in.data.toList.drop 0 = dktX6_in_0 := by decide +kernel
theorem dX6_in_0 : decode cX6_in 0 = .ok (.iload_n 0, 1) := dk_26 (dk_at dksX6_in_0 0 rfl rfl)
theorem dX6_in_1 : decode cX6_in 1 = .ok (.iload_n 1, 1) := dk_27 (dk_at dksX6_in_0 1 rfl rfl)
theorem dX6_in_2 : decode cX6_in 2 = .ok (.if_icmp .lt 12, 3) := dk_161 0 12 (dk_at dksX6_in_0 2 rfl rfl)
theorem dX6_in_5 : decode cX6_in 5 = .ok (.iload_n 0, 1) := dk_26 (dk_at dksX6_in_0 5 rfl rfl)
theorem dX6_in_6 : decode cX6_in 6 = .ok (.iload_n 2, 1) := dk_28 (dk_at dksX6_in_0 6 rfl rfl)
theorem dX6_in_7 : decode cX6_in 7 = .ok (.if_icmp .gt 7, 3) := dk_163 0 7 (dk_at dksX6_in_0 7 rfl rfl)
theorem dX6_in_10 : decode cX6_in 10 = .ok (.iconst 1, 1) := dk_4 (dk_at dksX6_in_0 10 rfl rfl)
theorem dX6_in_11 : decode cX6_in 11 = .ok (.goto 4, 3) := dk_167 0 4 (dk_at dksX6_in_0 11 rfl rfl)
theorem dX6_in_14 : decode cX6_in 14 = .ok (.iconst 0, 1) := dk_3 (dk_at dksX6_in_0 14 rfl rfl)
theorem dX6_in_15 : decode cX6_in 15 = .ok (.ireturn, 1) := dk_172 (dk_at dksX6_in_0 15 rfl rfl)
abbrev cX6_goes : ByteArray := prog_10_method_5_code
def yX6_goes : MethodName := ⟨RX6, "goes", "(ZZZ)Z"⟩
def dkwX6_goes_1 : List UInt8 := [167, 0, 4, 3, 181, 0, 55, 42, 180, 0, 55, 154, 0, 7, 4, 167, 0, 4, 3, 172]
abbrev dktX6_goes_1 : List UInt8 := dkwX6_goes_1 ++ []
def dkwX6_goes_0 : List UInt8 := [42, 27, 154, 0, 7, 4, 167, 0, 20, 28, 154, 0, 7, 5, 167, 0, 12, 29, 154, 0, 7, 6]
abbrev dktX6_goes_0 : List UInt8 := dkwX6_goes_0 ++ dktX6_goes_1
theorem dksX6_goes_0 : cX6_goes.data.toList.drop 0 = dktX6_goes_0 := by decide +kernel
theorem dksX6_goes_1 : cX6_goes.data.toList.drop 22 = dktX6_goes_1 := dk_seg dksX6_goes_0 22 rfl rfl
theorem dX6_goes_0 : decode cX6_goes 0 = .ok (.aload_n 0, 1) := dk_42 (dk_at dksX6_goes_0 0 rfl rfl)
theorem dX6_goes_1 : decode cX6_goes 1 = .ok (.iload_n 1, 1) := dk_27 (dk_at dksX6_goes_0 1 rfl rfl)
theorem dX6_goes_2 : decode cX6_goes 2 = .ok (.ifCond .ne 7, 3) := dk_154 0 7 (dk_at dksX6_goes_0 2 rfl rfl)
theorem dX6_goes_5 : decode cX6_goes 5 = .ok (.iconst 1, 1) := dk_4 (dk_at dksX6_goes_0 5 rfl rfl)
theorem dX6_goes_6 : decode cX6_goes 6 = .ok (.goto 20, 3) := dk_167 0 20 (dk_at dksX6_goes_0 6 rfl rfl)
theorem dX6_goes_9 : decode cX6_goes 9 = .ok (.iload_n 2, 1) := dk_28 (dk_at dksX6_goes_0 9 rfl rfl)
theorem dX6_goes_10 : decode cX6_goes 10 = .ok (.ifCond .ne 7, 3) := dk_154 0 7 (dk_at dksX6_goes_0 10 rfl rfl)
theorem dX6_goes_13 : decode cX6_goes 13 = .ok (.iconst 2, 1) := dk_5 (dk_at dksX6_goes_0 13 rfl rfl)
theorem dX6_goes_14 : decode cX6_goes 14 = .ok (.goto 12, 3) := dk_167 0 12 (dk_at dksX6_goes_0 14 rfl rfl)
theorem dX6_goes_17 : decode cX6_goes 17 = .ok (.iload_n 3, 1) := dk_29 (dk_at dksX6_goes_0 17 rfl rfl)
theorem dX6_goes_18 : decode cX6_goes 18 = .ok (.ifCond .ne 7, 3) := dk_154 0 7 (dk_at dksX6_goes_0 18 rfl rfl)
theorem dX6_goes_21 : decode cX6_goes 21 = .ok (.iconst 3, 1) := dk_6 (dk_at dksX6_goes_0 21 rfl rfl)
theorem dX6_goes_22 : decode cX6_goes 22 = .ok (.goto 4, 3) := dk_167 0 4 (dk_at dksX6_goes_1 0 rfl rfl)
theorem dX6_goes_25 : decode cX6_goes 25 = .ok (.iconst 0, 1) := dk_3 (dk_at dksX6_goes_1 3 rfl rfl)
theorem dX6_goes_26 : decode cX6_goes 26 = .ok (.putfield 55, 3) := dk_181 0 55 (dk_at dksX6_goes_1 4 rfl rfl)
theorem dX6_goes_29 : decode cX6_goes 29 = .ok (.aload_n 0, 1) := dk_42 (dk_at dksX6_goes_1 7 rfl rfl)
theorem dX6_goes_30 : decode cX6_goes 30 = .ok (.getfield 55, 3) := dk_180 0 55 (dk_at dksX6_goes_1 8 rfl rfl)
theorem dX6_goes_33 : decode cX6_goes 33 = .ok (.ifCond .ne 7, 3) := dk_154 0 7 (dk_at dksX6_goes_1 11 rfl rfl)
theorem dX6_goes_36 : decode cX6_goes 36 = .ok (.iconst 1, 1) := dk_4 (dk_at dksX6_goes_1 14 rfl rfl)
theorem dX6_goes_37 : decode cX6_goes 37 = .ok (.goto 4, 3) := dk_167 0 4 (dk_at dksX6_goes_1 15 rfl rfl)
theorem dX6_goes_40 : decode cX6_goes 40 = .ok (.iconst 0, 1) := dk_3 (dk_at dksX6_goes_1 18 rfl rfl)
theorem dX6_goes_41 : decode cX6_goes 41 = .ok (.ireturn, 1) := dk_172 (dk_at dksX6_goes_1 19 rfl rfl)
abbrev cX6_records : ByteArray := prog_10_method_8_code
def yX6_records : MethodName := ⟨RX6, "records", "()V"⟩
def dkwX6_records_2 : List UInt8 := [4, 96, 181, 0, 59, 42, 3, 42, 180, 0, 59, 182, 0, 62, 177]
abbrev dktX6_records_2 : List UInt8 := dkwX6_records_2 ++ []
def dkwX6_records_1 : List UInt8 := [182, 0, 62, 132, 1, 1, 167, 255, 239, 42, 89, 180, 0, 59, 4, 100, 181, 0, 59, 42, 89, 180, 0, 59]
abbrev dktX6_records_1 : List UInt8 := dkwX6_records_1 ++ dktX6_records_2
def dkwX6_records_0 : List UInt8 := [42, 180, 0, 59, 16, 6, 160, 0, 35, 4, 60, 27, 16, 6, 162, 0, 17, 42, 27, 4, 96, 27]
abbrev dktX6_records_0 : List UInt8 := dkwX6_records_0 ++ dktX6_records_1
theorem dksX6_records_0 : cX6_records.data.toList.drop 0 = dktX6_records_0 := by decide +kernel
theorem dksX6_records_1 : cX6_records.data.toList.drop 22 = dktX6_records_1 := dk_seg dksX6_records_0 22 rfl rfl
theorem dksX6_records_2 : cX6_records.data.toList.drop 46 = dktX6_records_2 := dk_seg dksX6_records_1 24 rfl rfl
theorem dX6_records_0 : decode cX6_records 0 = .ok (.aload_n 0, 1) := dk_42 (dk_at dksX6_records_0 0 rfl rfl)
theorem dX6_records_1 : decode cX6_records 1 = .ok (.getfield 59, 3) := dk_180 0 59 (dk_at dksX6_records_0 1 rfl rfl)
theorem dX6_records_4 : decode cX6_records 4 = .ok (.bipush 6, 2) := dk_16 6 (dk_at dksX6_records_0 4 rfl rfl)
theorem dX6_records_6 : decode cX6_records 6 = .ok (.if_icmp .ne 35, 3) := dk_160 0 35 (dk_at dksX6_records_0 6 rfl rfl)
theorem dX6_records_9 : decode cX6_records 9 = .ok (.iconst 1, 1) := dk_4 (dk_at dksX6_records_0 9 rfl rfl)
theorem dX6_records_10 : decode cX6_records 10 = .ok (.istore_n 1, 1) := dk_60 (dk_at dksX6_records_0 10 rfl rfl)
theorem dX6_records_11 : decode cX6_records 11 = .ok (.iload_n 1, 1) := dk_27 (dk_at dksX6_records_0 11 rfl rfl)
theorem dX6_records_12 : decode cX6_records 12 = .ok (.bipush 6, 2) := dk_16 6 (dk_at dksX6_records_0 12 rfl rfl)
theorem dX6_records_14 : decode cX6_records 14 = .ok (.if_icmp .ge 17, 3) := dk_162 0 17 (dk_at dksX6_records_0 14 rfl rfl)
theorem dX6_records_17 : decode cX6_records 17 = .ok (.aload_n 0, 1) := dk_42 (dk_at dksX6_records_0 17 rfl rfl)
theorem dX6_records_18 : decode cX6_records 18 = .ok (.iload_n 1, 1) := dk_27 (dk_at dksX6_records_0 18 rfl rfl)
theorem dX6_records_19 : decode cX6_records 19 = .ok (.iconst 1, 1) := dk_4 (dk_at dksX6_records_0 19 rfl rfl)
theorem dX6_records_20 : decode cX6_records 20 = .ok (.iadd, 1) := dk_96 (dk_at dksX6_records_0 20 rfl rfl)
theorem dX6_records_21 : decode cX6_records 21 = .ok (.iload_n 1, 1) := dk_27 (dk_at dksX6_records_0 21 rfl rfl)
theorem dX6_records_22 : decode cX6_records 22 = .ok (.invokevirtual 62, 3) := dk_182 0 62 (dk_at dksX6_records_1 0 rfl rfl)
theorem dX6_records_25 : decode cX6_records 25 = .ok (.iinc 1 1, 3) := dk_132 1 1 (dk_at dksX6_records_1 3 rfl rfl)
theorem dX6_records_28 : decode cX6_records 28 = .ok (.goto (-17), 3) := dk_167 255 239 (dk_at dksX6_records_1 6 rfl rfl)
theorem dX6_records_31 : decode cX6_records 31 = .ok (.aload_n 0, 1) := dk_42 (dk_at dksX6_records_1 9 rfl rfl)
theorem dX6_records_32 : decode cX6_records 32 = .ok (.dup, 1) := dk_89 (dk_at dksX6_records_1 10 rfl rfl)
theorem dX6_records_33 : decode cX6_records 33 = .ok (.getfield 59, 3) := dk_180 0 59 (dk_at dksX6_records_1 11 rfl rfl)
theorem dX6_records_36 : decode cX6_records 36 = .ok (.iconst 1, 1) := dk_4 (dk_at dksX6_records_1 14 rfl rfl)
theorem dX6_records_37 : decode cX6_records 37 = .ok (.isub, 1) := dk_100 (dk_at dksX6_records_1 15 rfl rfl)
theorem dX6_records_38 : decode cX6_records 38 = .ok (.putfield 59, 3) := dk_181 0 59 (dk_at dksX6_records_1 16 rfl rfl)
theorem dX6_records_41 : decode cX6_records 41 = .ok (.aload_n 0, 1) := dk_42 (dk_at dksX6_records_1 19 rfl rfl)
theorem dX6_records_42 : decode cX6_records 42 = .ok (.dup, 1) := dk_89 (dk_at dksX6_records_1 20 rfl rfl)
theorem dX6_records_43 : decode cX6_records 43 = .ok (.getfield 59, 3) := dk_180 0 59 (dk_at dksX6_records_1 21 rfl rfl)
theorem dX6_records_46 : decode cX6_records 46 = .ok (.iconst 1, 1) := dk_4 (dk_at dksX6_records_2 0 rfl rfl)
theorem dX6_records_47 : decode cX6_records 47 = .ok (.iadd, 1) := dk_96 (dk_at dksX6_records_2 1 rfl rfl)
theorem dX6_records_48 : decode cX6_records 48 = .ok (.putfield 59, 3) := dk_181 0 59 (dk_at dksX6_records_2 2 rfl rfl)
theorem dX6_records_51 : decode cX6_records 51 = .ok (.aload_n 0, 1) := dk_42 (dk_at dksX6_records_2 5 rfl rfl)
theorem dX6_records_52 : decode cX6_records 52 = .ok (.iconst 0, 1) := dk_3 (dk_at dksX6_records_2 6 rfl rfl)
theorem dX6_records_53 : decode cX6_records 53 = .ok (.aload_n 0, 1) := dk_42 (dk_at dksX6_records_2 7 rfl rfl)
theorem dX6_records_54 : decode cX6_records 54 = .ok (.getfield 59, 3) := dk_180 0 59 (dk_at dksX6_records_2 8 rfl rfl)
theorem dX6_records_57 : decode cX6_records 57 = .ok (.invokevirtual 62, 3) := dk_182 0 62 (dk_at dksX6_records_2 11 rfl rfl)
theorem dX6_records_60 : decode cX6_records 60 = .ok (.return_, 1) := dk_177 (dk_at dksX6_records_2 14 rfl rfl)
abbrev cX6_copies : ByteArray := prog_10_method_7_code
def yX6_copies : MethodName := ⟨RX6, "copies", "(II)V"⟩
def dkwX6_copies_1 : List UInt8 := [27, 104, 29, 96, 46, 79, 132, 3, 1, 167, 255, 225, 177]
abbrev dktX6_copies_1 : List UInt8 := dkwX6_copies_1 ++ []
def dkwX6_copies_0 : List UInt8 := [3, 62, 29, 16, 48, 162, 0, 31, 42, 180, 0, 7, 16, 48, 28, 104, 29, 96, 42, 180, 0, 7, 16, 48]
abbrev dktX6_copies_0 : List UInt8 := dkwX6_copies_0 ++ dktX6_copies_1
theorem dksX6_copies_0 : cX6_copies.data.toList.drop 0 = dktX6_copies_0 := by decide +kernel
theorem dksX6_copies_1 : cX6_copies.data.toList.drop 24 = dktX6_copies_1 := dk_seg dksX6_copies_0 24 rfl rfl
theorem dX6_copies_0 : decode cX6_copies 0 = .ok (.iconst 0, 1) := dk_3 (dk_at dksX6_copies_0 0 rfl rfl)
theorem dX6_copies_1 : decode cX6_copies 1 = .ok (.istore_n 3, 1) := dk_62 (dk_at dksX6_copies_0 1 rfl rfl)
theorem dX6_copies_2 : decode cX6_copies 2 = .ok (.iload_n 3, 1) := dk_29 (dk_at dksX6_copies_0 2 rfl rfl)
theorem dX6_copies_3 : decode cX6_copies 3 = .ok (.bipush 48, 2) := dk_16 48 (dk_at dksX6_copies_0 3 rfl rfl)
theorem dX6_copies_5 : decode cX6_copies 5 = .ok (.if_icmp .ge 31, 3) := dk_162 0 31 (dk_at dksX6_copies_0 5 rfl rfl)
theorem dX6_copies_8 : decode cX6_copies 8 = .ok (.aload_n 0, 1) := dk_42 (dk_at dksX6_copies_0 8 rfl rfl)
theorem dX6_copies_9 : decode cX6_copies 9 = .ok (.getfield 7, 3) := dk_180 0 7 (dk_at dksX6_copies_0 9 rfl rfl)
theorem dX6_copies_12 : decode cX6_copies 12 = .ok (.bipush 48, 2) := dk_16 48 (dk_at dksX6_copies_0 12 rfl rfl)
theorem dX6_copies_14 : decode cX6_copies 14 = .ok (.iload_n 2, 1) := dk_28 (dk_at dksX6_copies_0 14 rfl rfl)
theorem dX6_copies_15 : decode cX6_copies 15 = .ok (.imul, 1) := dk_104 (dk_at dksX6_copies_0 15 rfl rfl)
theorem dX6_copies_16 : decode cX6_copies 16 = .ok (.iload_n 3, 1) := dk_29 (dk_at dksX6_copies_0 16 rfl rfl)
theorem dX6_copies_17 : decode cX6_copies 17 = .ok (.iadd, 1) := dk_96 (dk_at dksX6_copies_0 17 rfl rfl)
theorem dX6_copies_18 : decode cX6_copies 18 = .ok (.aload_n 0, 1) := dk_42 (dk_at dksX6_copies_0 18 rfl rfl)
theorem dX6_copies_19 : decode cX6_copies 19 = .ok (.getfield 7, 3) := dk_180 0 7 (dk_at dksX6_copies_0 19 rfl rfl)
theorem dX6_copies_22 : decode cX6_copies 22 = .ok (.bipush 48, 2) := dk_16 48 (dk_at dksX6_copies_0 22 rfl rfl)
theorem dX6_copies_24 : decode cX6_copies 24 = .ok (.iload_n 1, 1) := dk_27 (dk_at dksX6_copies_1 0 rfl rfl)
theorem dX6_copies_25 : decode cX6_copies 25 = .ok (.imul, 1) := dk_104 (dk_at dksX6_copies_1 1 rfl rfl)
theorem dX6_copies_26 : decode cX6_copies 26 = .ok (.iload_n 3, 1) := dk_29 (dk_at dksX6_copies_1 2 rfl rfl)
theorem dX6_copies_27 : decode cX6_copies 27 = .ok (.iadd, 1) := dk_96 (dk_at dksX6_copies_1 3 rfl rfl)
theorem dX6_copies_28 : decode cX6_copies 28 = .ok (.iaload, 1) := dk_46 (dk_at dksX6_copies_1 4 rfl rfl)
theorem dX6_copies_29 : decode cX6_copies 29 = .ok (.iastore, 1) := dk_79 (dk_at dksX6_copies_1 5 rfl rfl)
theorem dX6_copies_30 : decode cX6_copies 30 = .ok (.iinc 3 1, 3) := dk_132 3 1 (dk_at dksX6_copies_1 6 rfl rfl)
theorem dX6_copies_33 : decode cX6_copies 33 = .ok (.goto (-31), 3) := dk_167 255 225 (dk_at dksX6_copies_1 9 rfl rfl)
theorem dX6_copies_36 : decode cX6_copies 36 = .ok (.return_, 1) := dk_177 (dk_at dksX6_copies_1 12 rfl rfl)
abbrev cX6_turnDiagonals : ByteArray := prog_10_method_59_code
def yX6_turnDiagonals : MethodName := ⟨RX6, "turnDiagonals", "()Z"⟩
def dkwX6_turnDiagonals_1 : List UInt8 := [180, 0, 7, 5, 46, 4, 160, 0, 7, 4, 167, 0, 4, 3, 172]
abbrev dktX6_turnDiagonals_1 : List UInt8 := dkwX6_turnDiagonals_1 ++ []
def dkwX6_turnDiagonals_0 : List UInt8 := [42, 3, 181, 0, 55, 42, 182, 0, 214, 42, 180, 0, 7, 5, 4, 42, 180, 0, 7, 5, 46, 100, 79, 42]
abbrev dktX6_turnDiagonals_0 : List UInt8 := dkwX6_turnDiagonals_0 ++ dktX6_turnDiagonals_1
theorem dksX6_turnDiagonals_0 : cX6_turnDiagonals.data.toList.drop 0 = dktX6_turnDiagonals_0 := by decide +kernel
theorem dksX6_turnDiagonals_1 : cX6_turnDiagonals.data.toList.drop 24 = dktX6_turnDiagonals_1 := dk_seg dksX6_turnDiagonals_0 24 rfl rfl
theorem dX6_turnDiagonals_0 : decode cX6_turnDiagonals 0 = .ok (.aload_n 0, 1) := dk_42 (dk_at dksX6_turnDiagonals_0 0 rfl rfl)
theorem dX6_turnDiagonals_1 : decode cX6_turnDiagonals 1 = .ok (.iconst 0, 1) := dk_3 (dk_at dksX6_turnDiagonals_0 1 rfl rfl)
theorem dX6_turnDiagonals_2 : decode cX6_turnDiagonals 2 = .ok (.putfield 55, 3) := dk_181 0 55 (dk_at dksX6_turnDiagonals_0 2 rfl rfl)
theorem dX6_turnDiagonals_5 : decode cX6_turnDiagonals 5 = .ok (.aload_n 0, 1) := dk_42 (dk_at dksX6_turnDiagonals_0 5 rfl rfl)
theorem dX6_turnDiagonals_6 : decode cX6_turnDiagonals 6 = .ok (.invokevirtual 214, 3) := dk_182 0 214 (dk_at dksX6_turnDiagonals_0 6 rfl rfl)
theorem dX6_turnDiagonals_9 : decode cX6_turnDiagonals 9 = .ok (.aload_n 0, 1) := dk_42 (dk_at dksX6_turnDiagonals_0 9 rfl rfl)
theorem dX6_turnDiagonals_10 : decode cX6_turnDiagonals 10 = .ok (.getfield 7, 3) := dk_180 0 7 (dk_at dksX6_turnDiagonals_0 10 rfl rfl)
theorem dX6_turnDiagonals_13 : decode cX6_turnDiagonals 13 = .ok (.iconst 2, 1) := dk_5 (dk_at dksX6_turnDiagonals_0 13 rfl rfl)
theorem dX6_turnDiagonals_14 : decode cX6_turnDiagonals 14 = .ok (.iconst 1, 1) := dk_4 (dk_at dksX6_turnDiagonals_0 14 rfl rfl)
theorem dX6_turnDiagonals_15 : decode cX6_turnDiagonals 15 = .ok (.aload_n 0, 1) := dk_42 (dk_at dksX6_turnDiagonals_0 15 rfl rfl)
theorem dX6_turnDiagonals_16 : decode cX6_turnDiagonals 16 = .ok (.getfield 7, 3) := dk_180 0 7 (dk_at dksX6_turnDiagonals_0 16 rfl rfl)
theorem dX6_turnDiagonals_19 : decode cX6_turnDiagonals 19 = .ok (.iconst 2, 1) := dk_5 (dk_at dksX6_turnDiagonals_0 19 rfl rfl)
theorem dX6_turnDiagonals_20 : decode cX6_turnDiagonals 20 = .ok (.iaload, 1) := dk_46 (dk_at dksX6_turnDiagonals_0 20 rfl rfl)
theorem dX6_turnDiagonals_21 : decode cX6_turnDiagonals 21 = .ok (.isub, 1) := dk_100 (dk_at dksX6_turnDiagonals_0 21 rfl rfl)
theorem dX6_turnDiagonals_22 : decode cX6_turnDiagonals 22 = .ok (.iastore, 1) := dk_79 (dk_at dksX6_turnDiagonals_0 22 rfl rfl)
theorem dX6_turnDiagonals_23 : decode cX6_turnDiagonals 23 = .ok (.aload_n 0, 1) := dk_42 (dk_at dksX6_turnDiagonals_0 23 rfl rfl)
theorem dX6_turnDiagonals_24 : decode cX6_turnDiagonals 24 = .ok (.getfield 7, 3) := dk_180 0 7 (dk_at dksX6_turnDiagonals_1 0 rfl rfl)
theorem dX6_turnDiagonals_27 : decode cX6_turnDiagonals 27 = .ok (.iconst 2, 1) := dk_5 (dk_at dksX6_turnDiagonals_1 3 rfl rfl)
theorem dX6_turnDiagonals_28 : decode cX6_turnDiagonals 28 = .ok (.iaload, 1) := dk_46 (dk_at dksX6_turnDiagonals_1 4 rfl rfl)
theorem dX6_turnDiagonals_29 : decode cX6_turnDiagonals 29 = .ok (.iconst 1, 1) := dk_4 (dk_at dksX6_turnDiagonals_1 5 rfl rfl)
theorem dX6_turnDiagonals_30 : decode cX6_turnDiagonals 30 = .ok (.if_icmp .ne 7, 3) := dk_160 0 7 (dk_at dksX6_turnDiagonals_1 6 rfl rfl)
theorem dX6_turnDiagonals_33 : decode cX6_turnDiagonals 33 = .ok (.iconst 1, 1) := dk_4 (dk_at dksX6_turnDiagonals_1 9 rfl rfl)
theorem dX6_turnDiagonals_34 : decode cX6_turnDiagonals 34 = .ok (.goto 4, 3) := dk_167 0 4 (dk_at dksX6_turnDiagonals_1 10 rfl rfl)
theorem dX6_turnDiagonals_37 : decode cX6_turnDiagonals 37 = .ok (.iconst 0, 1) := dk_3 (dk_at dksX6_turnDiagonals_1 13 rfl rfl)
theorem dX6_turnDiagonals_38 : decode cX6_turnDiagonals 38 = .ok (.ireturn, 1) := dk_172 (dk_at dksX6_turnDiagonals_1 14 rfl rfl)
abbrev cX6_setTelling : ByteArray := prog_10_method_62_code
def yX6_setTelling : MethodName := ⟨RX6, "setTelling", "(IIZ)I"⟩
def dkwX6_setTelling_1 : List UInt8 := [42, 27, 28, 29, 182, 0, 226, 172]
abbrev dktX6_setTelling_1 : List UInt8 := dkwX6_setTelling_1 ++ []
def dkwX6_setTelling_0 : List UInt8 := [42, 42, 27, 182, 0, 220, 42, 28, 182, 0, 223, 4, 182, 0, 210, 154, 0, 5, 3, 172, 42, 182, 0, 214]
abbrev dktX6_setTelling_0 : List UInt8 := dkwX6_setTelling_0 ++ dktX6_setTelling_1
theorem dksX6_setTelling_0 : cX6_setTelling.data.toList.drop 0 = dktX6_setTelling_0 := by decide +kernel
theorem dksX6_setTelling_1 : cX6_setTelling.data.toList.drop 24 = dktX6_setTelling_1 := dk_seg dksX6_setTelling_0 24 rfl rfl
theorem dX6_setTelling_0 : decode cX6_setTelling 0 = .ok (.aload_n 0, 1) := dk_42 (dk_at dksX6_setTelling_0 0 rfl rfl)
theorem dX6_setTelling_1 : decode cX6_setTelling 1 = .ok (.aload_n 0, 1) := dk_42 (dk_at dksX6_setTelling_0 1 rfl rfl)
theorem dX6_setTelling_2 : decode cX6_setTelling 2 = .ok (.iload_n 1, 1) := dk_27 (dk_at dksX6_setTelling_0 2 rfl rfl)
theorem dX6_setTelling_3 : decode cX6_setTelling 3 = .ok (.invokevirtual 220, 3) := dk_182 0 220 (dk_at dksX6_setTelling_0 3 rfl rfl)
theorem dX6_setTelling_6 : decode cX6_setTelling 6 = .ok (.aload_n 0, 1) := dk_42 (dk_at dksX6_setTelling_0 6 rfl rfl)
theorem dX6_setTelling_7 : decode cX6_setTelling 7 = .ok (.iload_n 2, 1) := dk_28 (dk_at dksX6_setTelling_0 7 rfl rfl)
theorem dX6_setTelling_8 : decode cX6_setTelling 8 = .ok (.invokevirtual 223, 3) := dk_182 0 223 (dk_at dksX6_setTelling_0 8 rfl rfl)
theorem dX6_setTelling_11 : decode cX6_setTelling 11 = .ok (.iconst 1, 1) := dk_4 (dk_at dksX6_setTelling_0 11 rfl rfl)
theorem dX6_setTelling_12 : decode cX6_setTelling 12 = .ok (.invokevirtual 210, 3) := dk_182 0 210 (dk_at dksX6_setTelling_0 12 rfl rfl)
theorem dX6_setTelling_15 : decode cX6_setTelling 15 = .ok (.ifCond .ne 5, 3) := dk_154 0 5 (dk_at dksX6_setTelling_0 15 rfl rfl)
theorem dX6_setTelling_18 : decode cX6_setTelling 18 = .ok (.iconst 0, 1) := dk_3 (dk_at dksX6_setTelling_0 18 rfl rfl)
theorem dX6_setTelling_19 : decode cX6_setTelling 19 = .ok (.ireturn, 1) := dk_172 (dk_at dksX6_setTelling_0 19 rfl rfl)
theorem dX6_setTelling_20 : decode cX6_setTelling 20 = .ok (.aload_n 0, 1) := dk_42 (dk_at dksX6_setTelling_0 20 rfl rfl)
theorem dX6_setTelling_21 : decode cX6_setTelling 21 = .ok (.invokevirtual 214, 3) := dk_182 0 214 (dk_at dksX6_setTelling_0 21 rfl rfl)
theorem dX6_setTelling_24 : decode cX6_setTelling 24 = .ok (.aload_n 0, 1) := dk_42 (dk_at dksX6_setTelling_1 0 rfl rfl)
theorem dX6_setTelling_25 : decode cX6_setTelling 25 = .ok (.iload_n 1, 1) := dk_27 (dk_at dksX6_setTelling_1 1 rfl rfl)
theorem dX6_setTelling_26 : decode cX6_setTelling 26 = .ok (.iload_n 2, 1) := dk_28 (dk_at dksX6_setTelling_1 2 rfl rfl)
theorem dX6_setTelling_27 : decode cX6_setTelling 27 = .ok (.iload_n 3, 1) := dk_29 (dk_at dksX6_setTelling_1 3 rfl rfl)
theorem dX6_setTelling_28 : decode cX6_setTelling 28 = .ok (.invokevirtual 226, 3) := dk_182 0 226 (dk_at dksX6_setTelling_1 4 rfl rfl)
theorem dX6_setTelling_31 : decode cX6_setTelling 31 = .ok (.ireturn, 1) := dk_172 (dk_at dksX6_setTelling_1 7 rfl rfl)
abbrev cX6_isEdge : ByteArray := prog_10_method_14_code
def yX6_isEdge : MethodName := ⟨RX6, "isEdge", "(I)Z"⟩
def dkwX6_isEdge_0 : List UInt8 := [27, 3, 42, 182, 0, 74, 4, 100, 184, 0, 70, 172]
abbrev dktX6_isEdge_0 : List UInt8 := dkwX6_isEdge_0 ++ []
theorem dksX6_isEdge_0 : cX6_isEdge.data.toList.drop 0 = dktX6_isEdge_0 := by decide +kernel
theorem dX6_isEdge_0 : decode cX6_isEdge 0 = .ok (.iload_n 1, 1) := dk_27 (dk_at dksX6_isEdge_0 0 rfl rfl)
theorem dX6_isEdge_1 : decode cX6_isEdge 1 = .ok (.iconst 0, 1) := dk_3 (dk_at dksX6_isEdge_0 1 rfl rfl)
theorem dX6_isEdge_2 : decode cX6_isEdge 2 = .ok (.aload_n 0, 1) := dk_42 (dk_at dksX6_isEdge_0 2 rfl rfl)
theorem dX6_isEdge_3 : decode cX6_isEdge 3 = .ok (.invokevirtual 74, 3) := dk_182 0 74 (dk_at dksX6_isEdge_0 3 rfl rfl)
theorem dX6_isEdge_6 : decode cX6_isEdge 6 = .ok (.iconst 1, 1) := dk_4 (dk_at dksX6_isEdge_0 6 rfl rfl)
theorem dX6_isEdge_7 : decode cX6_isEdge 7 = .ok (.isub, 1) := dk_100 (dk_at dksX6_isEdge_0 7 rfl rfl)
theorem dX6_isEdge_8 : decode cX6_isEdge 8 = .ok (.invokestatic 70, 3) := dk_184 0 70 (dk_at dksX6_isEdge_0 8 rfl rfl)
theorem dX6_isEdge_11 : decode cX6_isEdge 11 = .ok (.ireturn, 1) := dk_172 (dk_at dksX6_isEdge_0 11 rfl rfl)
abbrev cX6_edges : ByteArray := prog_10_method_10_code
def yX6_edges : MethodName := ⟨RX6, "edges", "()I"⟩
def dkwX6_edges_0 : List UInt8 := [7, 42, 180, 0, 7, 3, 46, 104, 172]
abbrev dktX6_edges_0 : List UInt8 := dkwX6_edges_0 ++ []
theorem dksX6_edges_0 : cX6_edges.data.toList.drop 0 = dktX6_edges_0 := by decide +kernel
theorem dX6_edges_0 : decode cX6_edges 0 = .ok (.iconst 4, 1) := dk_7 (dk_at dksX6_edges_0 0 rfl rfl)
theorem dX6_edges_1 : decode cX6_edges 1 = .ok (.aload_n 0, 1) := dk_42 (dk_at dksX6_edges_0 1 rfl rfl)
theorem dX6_edges_2 : decode cX6_edges 2 = .ok (.getfield 7, 3) := dk_180 0 7 (dk_at dksX6_edges_0 2 rfl rfl)
theorem dX6_edges_5 : decode cX6_edges 5 = .ok (.iconst 0, 1) := dk_3 (dk_at dksX6_edges_0 5 rfl rfl)
theorem dX6_edges_6 : decode cX6_edges 6 = .ok (.iaload, 1) := dk_46 (dk_at dksX6_edges_0 6 rfl rfl)
theorem dX6_edges_7 : decode cX6_edges 7 = .ok (.imul, 1) := dk_104 (dk_at dksX6_edges_0 7 rfl rfl)
theorem dX6_edges_8 : decode cX6_edges 8 = .ok (.ireturn, 1) := dk_172 (dk_at dksX6_edges_0 8 rfl rfl)
abbrev cX6_isLetter : ByteArray := prog_10_method_15_code
def yX6_isLetter : MethodName := ⟨RX6, "isLetter", "(I)Z"⟩
def dkwX6_isLetter_0 : List UInt8 := [27, 3, 42, 180, 0, 7, 4, 46, 4, 100, 184, 0, 70, 172]
abbrev dktX6_isLetter_0 : List UInt8 := dkwX6_isLetter_0 ++ []
theorem dksX6_isLetter_0 : cX6_isLetter.data.toList.drop 0 = dktX6_isLetter_0 := by decide +kernel
theorem dX6_isLetter_0 : decode cX6_isLetter 0 = .ok (.iload_n 1, 1) := dk_27 (dk_at dksX6_isLetter_0 0 rfl rfl)
theorem dX6_isLetter_1 : decode cX6_isLetter 1 = .ok (.iconst 0, 1) := dk_3 (dk_at dksX6_isLetter_0 1 rfl rfl)
theorem dX6_isLetter_2 : decode cX6_isLetter 2 = .ok (.aload_n 0, 1) := dk_42 (dk_at dksX6_isLetter_0 2 rfl rfl)
theorem dX6_isLetter_3 : decode cX6_isLetter 3 = .ok (.getfield 7, 3) := dk_180 0 7 (dk_at dksX6_isLetter_0 3 rfl rfl)
theorem dX6_isLetter_6 : decode cX6_isLetter 6 = .ok (.iconst 1, 1) := dk_4 (dk_at dksX6_isLetter_0 6 rfl rfl)
theorem dX6_isLetter_7 : decode cX6_isLetter 7 = .ok (.iaload, 1) := dk_46 (dk_at dksX6_isLetter_0 7 rfl rfl)
theorem dX6_isLetter_8 : decode cX6_isLetter 8 = .ok (.iconst 1, 1) := dk_4 (dk_at dksX6_isLetter_0 8 rfl rfl)
theorem dX6_isLetter_9 : decode cX6_isLetter 9 = .ok (.isub, 1) := dk_100 (dk_at dksX6_isLetter_0 9 rfl rfl)
theorem dX6_isLetter_10 : decode cX6_isLetter 10 = .ok (.invokestatic 70, 3) := dk_184 0 70 (dk_at dksX6_isLetter_0 10 rfl rfl)
theorem dX6_isLetter_13 : decode cX6_isLetter 13 = .ok (.ireturn, 1) := dk_172 (dk_at dksX6_isLetter_0 13 rfl rfl)
abbrev cX6_tells : ByteArray := prog_10_method_61_code
def yX6_tells : MethodName := ⟨RX6, "tells", "(IIZ)I"⟩
def dkwX6_tells_1 : List UInt8 := [104, 96, 29, 184, 0, 80, 96, 79, 21, 4, 172]
abbrev dktX6_tells_1 : List UInt8 := dkwX6_tells_1 ++ []
def dkwX6_tells_0 : List UInt8 := [42, 42, 180, 0, 7, 6, 27, 96, 46, 182, 0, 217, 54, 4, 42, 180, 0, 7, 6, 27, 96, 4, 5, 28]
abbrev dktX6_tells_0 : List UInt8 := dkwX6_tells_0 ++ dktX6_tells_1
theorem dksX6_tells_0 : cX6_tells.data.toList.drop 0 = dktX6_tells_0 := by decide +kernel
theorem dksX6_tells_1 : cX6_tells.data.toList.drop 24 = dktX6_tells_1 := dk_seg dksX6_tells_0 24 rfl rfl
theorem dX6_tells_0 : decode cX6_tells 0 = .ok (.aload_n 0, 1) := dk_42 (dk_at dksX6_tells_0 0 rfl rfl)
theorem dX6_tells_1 : decode cX6_tells 1 = .ok (.aload_n 0, 1) := dk_42 (dk_at dksX6_tells_0 1 rfl rfl)
theorem dX6_tells_2 : decode cX6_tells 2 = .ok (.getfield 7, 3) := dk_180 0 7 (dk_at dksX6_tells_0 2 rfl rfl)
theorem dX6_tells_5 : decode cX6_tells 5 = .ok (.iconst 3, 1) := dk_6 (dk_at dksX6_tells_0 5 rfl rfl)
theorem dX6_tells_6 : decode cX6_tells 6 = .ok (.iload_n 1, 1) := dk_27 (dk_at dksX6_tells_0 6 rfl rfl)
theorem dX6_tells_7 : decode cX6_tells 7 = .ok (.iadd, 1) := dk_96 (dk_at dksX6_tells_0 7 rfl rfl)
theorem dX6_tells_8 : decode cX6_tells 8 = .ok (.iaload, 1) := dk_46 (dk_at dksX6_tells_0 8 rfl rfl)
theorem dX6_tells_9 : decode cX6_tells 9 = .ok (.invokevirtual 217, 3) := dk_182 0 217 (dk_at dksX6_tells_0 9 rfl rfl)
theorem dX6_tells_12 : decode cX6_tells 12 = .ok (.istore 4, 2) := dk_54 4 (dk_at dksX6_tells_0 12 rfl rfl)
theorem dX6_tells_14 : decode cX6_tells 14 = .ok (.aload_n 0, 1) := dk_42 (dk_at dksX6_tells_0 14 rfl rfl)
theorem dX6_tells_15 : decode cX6_tells 15 = .ok (.getfield 7, 3) := dk_180 0 7 (dk_at dksX6_tells_0 15 rfl rfl)
theorem dX6_tells_18 : decode cX6_tells 18 = .ok (.iconst 3, 1) := dk_6 (dk_at dksX6_tells_0 18 rfl rfl)
theorem dX6_tells_19 : decode cX6_tells 19 = .ok (.iload_n 1, 1) := dk_27 (dk_at dksX6_tells_0 19 rfl rfl)
theorem dX6_tells_20 : decode cX6_tells 20 = .ok (.iadd, 1) := dk_96 (dk_at dksX6_tells_0 20 rfl rfl)
theorem dX6_tells_21 : decode cX6_tells 21 = .ok (.iconst 1, 1) := dk_4 (dk_at dksX6_tells_0 21 rfl rfl)
theorem dX6_tells_22 : decode cX6_tells 22 = .ok (.iconst 2, 1) := dk_5 (dk_at dksX6_tells_0 22 rfl rfl)
theorem dX6_tells_23 : decode cX6_tells 23 = .ok (.iload_n 2, 1) := dk_28 (dk_at dksX6_tells_0 23 rfl rfl)
theorem dX6_tells_24 : decode cX6_tells 24 = .ok (.imul, 1) := dk_104 (dk_at dksX6_tells_1 0 rfl rfl)
theorem dX6_tells_25 : decode cX6_tells 25 = .ok (.iadd, 1) := dk_96 (dk_at dksX6_tells_1 1 rfl rfl)
theorem dX6_tells_26 : decode cX6_tells 26 = .ok (.iload_n 3, 1) := dk_29 (dk_at dksX6_tells_1 2 rfl rfl)
theorem dX6_tells_27 : decode cX6_tells 27 = .ok (.invokestatic 80, 3) := dk_184 0 80 (dk_at dksX6_tells_1 3 rfl rfl)
theorem dX6_tells_30 : decode cX6_tells 30 = .ok (.iadd, 1) := dk_96 (dk_at dksX6_tells_1 6 rfl rfl)
theorem dX6_tells_31 : decode cX6_tells 31 = .ok (.iastore, 1) := dk_79 (dk_at dksX6_tells_1 7 rfl rfl)
theorem dX6_tells_32 : decode cX6_tells 32 = .ok (.iload 4, 2) := dk_21 4 (dk_at dksX6_tells_1 8 rfl rfl)
theorem dX6_tells_34 : decode cX6_tells 34 = .ok (.ireturn, 1) := dk_172 (dk_at dksX6_tells_1 10 rfl rfl)
abbrev cX6_letterOf : ByteArray := prog_10_method_60_code
def yX6_letterOf : MethodName := ⟨RX6, "letterOf", "(I)I"⟩
def dkwX6_letterOf_0 : List UInt8 := [27, 154, 0, 7, 2, 167, 0, 8, 27, 4, 100, 5, 108, 172]
abbrev dktX6_letterOf_0 : List UInt8 := dkwX6_letterOf_0 ++ []
theorem dksX6_letterOf_0 : cX6_letterOf.data.toList.drop 0 = dktX6_letterOf_0 := by decide +kernel
theorem dX6_letterOf_0 : decode cX6_letterOf 0 = .ok (.iload_n 1, 1) := dk_27 (dk_at dksX6_letterOf_0 0 rfl rfl)
theorem dX6_letterOf_1 : decode cX6_letterOf 1 = .ok (.ifCond .ne 7, 3) := dk_154 0 7 (dk_at dksX6_letterOf_0 1 rfl rfl)
theorem dX6_letterOf_4 : decode cX6_letterOf 4 = .ok (.iconst (-1), 1) := dk_2 (dk_at dksX6_letterOf_0 4 rfl rfl)
theorem dX6_letterOf_5 : decode cX6_letterOf 5 = .ok (.goto 8, 3) := dk_167 0 8 (dk_at dksX6_letterOf_0 5 rfl rfl)
theorem dX6_letterOf_8 : decode cX6_letterOf 8 = .ok (.iload_n 1, 1) := dk_27 (dk_at dksX6_letterOf_0 8 rfl rfl)
theorem dX6_letterOf_9 : decode cX6_letterOf 9 = .ok (.iconst 1, 1) := dk_4 (dk_at dksX6_letterOf_0 9 rfl rfl)
theorem dX6_letterOf_10 : decode cX6_letterOf 10 = .ok (.isub, 1) := dk_100 (dk_at dksX6_letterOf_0 10 rfl rfl)
theorem dX6_letterOf_11 : decode cX6_letterOf 11 = .ok (.iconst 2, 1) := dk_5 (dk_at dksX6_letterOf_0 11 rfl rfl)
theorem dX6_letterOf_12 : decode cX6_letterOf 12 = .ok (.idiv, 1) := dk_108 (dk_at dksX6_letterOf_0 12 rfl rfl)
theorem dX6_letterOf_13 : decode cX6_letterOf 13 = .ok (.ireturn, 1) := dk_172 (dk_at dksX6_letterOf_0 13 rfl rfl)
abbrev cX6_flag : ByteArray := prog_10_method_4_code
def yX6_flag : MethodName := ⟨RX6, "flag", "(Z)I"⟩
def dkwX6_flag_0 : List UInt8 := [26, 153, 0, 7, 4, 167, 0, 4, 3, 172]
abbrev dktX6_flag_0 : List UInt8 := dkwX6_flag_0 ++ []
theorem dksX6_flag_0 : cX6_flag.data.toList.drop 0 = dktX6_flag_0 := by decide +kernel
theorem dX6_flag_0 : decode cX6_flag 0 = .ok (.iload_n 0, 1) := dk_26 (dk_at dksX6_flag_0 0 rfl rfl)
theorem dX6_flag_1 : decode cX6_flag 1 = .ok (.ifCond .eq 7, 3) := dk_153 0 7 (dk_at dksX6_flag_0 1 rfl rfl)
theorem dX6_flag_4 : decode cX6_flag 4 = .ok (.iconst 1, 1) := dk_4 (dk_at dksX6_flag_0 4 rfl rfl)
theorem dX6_flag_5 : decode cX6_flag 5 = .ok (.goto 4, 3) := dk_167 0 4 (dk_at dksX6_flag_0 5 rfl rfl)
theorem dX6_flag_8 : decode cX6_flag 8 = .ok (.iconst 0, 1) := dk_3 (dk_at dksX6_flag_0 8 rfl rfl)
theorem dX6_flag_9 : decode cX6_flag 9 = .ok (.ireturn, 1) := dk_172 (dk_at dksX6_flag_0 9 rfl rfl)
abbrev cX6_clearTelling : ByteArray := prog_10_method_63_code
def yX6_clearTelling : MethodName := ⟨RX6, "clearTelling", "(I)I"⟩
def dkwX6_clearTelling_2 : List UInt8 := [3, 79, 42, 182, 0, 230, 172]
abbrev dktX6_clearTelling_2 : List UInt8 := dkwX6_clearTelling_2 ++ []
def dkwX6_clearTelling_1 : List UInt8 := [167, 0, 4, 3, 4, 182, 0, 210, 154, 0, 5, 3, 172, 42, 182, 0, 214, 42, 180, 0, 7, 6, 27, 96]
abbrev dktX6_clearTelling_1 : List UInt8 := dkwX6_clearTelling_1 ++ dktX6_clearTelling_2
def dkwX6_clearTelling_0 : List UInt8 := [42, 27, 182, 0, 220, 61, 42, 28, 28, 153, 0, 18, 42, 180, 0, 7, 6, 27, 96, 46, 158, 0, 7, 4]
abbrev dktX6_clearTelling_0 : List UInt8 := dkwX6_clearTelling_0 ++ dktX6_clearTelling_1
theorem dksX6_clearTelling_0 : cX6_clearTelling.data.toList.drop 0 = dktX6_clearTelling_0 := by decide +kernel
theorem dksX6_clearTelling_1 : cX6_clearTelling.data.toList.drop 24 = dktX6_clearTelling_1 := dk_seg dksX6_clearTelling_0 24 rfl rfl
theorem dksX6_clearTelling_2 : cX6_clearTelling.data.toList.drop 48 = dktX6_clearTelling_2 := dk_seg dksX6_clearTelling_1 24 rfl rfl
theorem dX6_clearTelling_0 : decode cX6_clearTelling 0 = .ok (.aload_n 0, 1) := dk_42 (dk_at dksX6_clearTelling_0 0 rfl rfl)
theorem dX6_clearTelling_1 : decode cX6_clearTelling 1 = .ok (.iload_n 1, 1) := dk_27 (dk_at dksX6_clearTelling_0 1 rfl rfl)
theorem dX6_clearTelling_2 : decode cX6_clearTelling 2 = .ok (.invokevirtual 220, 3) := dk_182 0 220 (dk_at dksX6_clearTelling_0 2 rfl rfl)
theorem dX6_clearTelling_5 : decode cX6_clearTelling 5 = .ok (.istore_n 2, 1) := dk_61 (dk_at dksX6_clearTelling_0 5 rfl rfl)
theorem dX6_clearTelling_6 : decode cX6_clearTelling 6 = .ok (.aload_n 0, 1) := dk_42 (dk_at dksX6_clearTelling_0 6 rfl rfl)
theorem dX6_clearTelling_7 : decode cX6_clearTelling 7 = .ok (.iload_n 2, 1) := dk_28 (dk_at dksX6_clearTelling_0 7 rfl rfl)
theorem dX6_clearTelling_8 : decode cX6_clearTelling 8 = .ok (.iload_n 2, 1) := dk_28 (dk_at dksX6_clearTelling_0 8 rfl rfl)
theorem dX6_clearTelling_9 : decode cX6_clearTelling 9 = .ok (.ifCond .eq 18, 3) := dk_153 0 18 (dk_at dksX6_clearTelling_0 9 rfl rfl)
theorem dX6_clearTelling_12 : decode cX6_clearTelling 12 = .ok (.aload_n 0, 1) := dk_42 (dk_at dksX6_clearTelling_0 12 rfl rfl)
theorem dX6_clearTelling_13 : decode cX6_clearTelling 13 = .ok (.getfield 7, 3) := dk_180 0 7 (dk_at dksX6_clearTelling_0 13 rfl rfl)
theorem dX6_clearTelling_16 : decode cX6_clearTelling 16 = .ok (.iconst 3, 1) := dk_6 (dk_at dksX6_clearTelling_0 16 rfl rfl)
theorem dX6_clearTelling_17 : decode cX6_clearTelling 17 = .ok (.iload_n 1, 1) := dk_27 (dk_at dksX6_clearTelling_0 17 rfl rfl)
theorem dX6_clearTelling_18 : decode cX6_clearTelling 18 = .ok (.iadd, 1) := dk_96 (dk_at dksX6_clearTelling_0 18 rfl rfl)
theorem dX6_clearTelling_19 : decode cX6_clearTelling 19 = .ok (.iaload, 1) := dk_46 (dk_at dksX6_clearTelling_0 19 rfl rfl)
theorem dX6_clearTelling_20 : decode cX6_clearTelling 20 = .ok (.ifCond .le 7, 3) := dk_158 0 7 (dk_at dksX6_clearTelling_0 20 rfl rfl)
theorem dX6_clearTelling_23 : decode cX6_clearTelling 23 = .ok (.iconst 1, 1) := dk_4 (dk_at dksX6_clearTelling_0 23 rfl rfl)
theorem dX6_clearTelling_24 : decode cX6_clearTelling 24 = .ok (.goto 4, 3) := dk_167 0 4 (dk_at dksX6_clearTelling_1 0 rfl rfl)
theorem dX6_clearTelling_27 : decode cX6_clearTelling 27 = .ok (.iconst 0, 1) := dk_3 (dk_at dksX6_clearTelling_1 3 rfl rfl)
theorem dX6_clearTelling_28 : decode cX6_clearTelling 28 = .ok (.iconst 1, 1) := dk_4 (dk_at dksX6_clearTelling_1 4 rfl rfl)
theorem dX6_clearTelling_29 : decode cX6_clearTelling 29 = .ok (.invokevirtual 210, 3) := dk_182 0 210 (dk_at dksX6_clearTelling_1 5 rfl rfl)
theorem dX6_clearTelling_32 : decode cX6_clearTelling 32 = .ok (.ifCond .ne 5, 3) := dk_154 0 5 (dk_at dksX6_clearTelling_1 8 rfl rfl)
theorem dX6_clearTelling_35 : decode cX6_clearTelling 35 = .ok (.iconst 0, 1) := dk_3 (dk_at dksX6_clearTelling_1 11 rfl rfl)
theorem dX6_clearTelling_36 : decode cX6_clearTelling 36 = .ok (.ireturn, 1) := dk_172 (dk_at dksX6_clearTelling_1 12 rfl rfl)
theorem dX6_clearTelling_37 : decode cX6_clearTelling 37 = .ok (.aload_n 0, 1) := dk_42 (dk_at dksX6_clearTelling_1 13 rfl rfl)
theorem dX6_clearTelling_38 : decode cX6_clearTelling 38 = .ok (.invokevirtual 214, 3) := dk_182 0 214 (dk_at dksX6_clearTelling_1 14 rfl rfl)
theorem dX6_clearTelling_41 : decode cX6_clearTelling 41 = .ok (.aload_n 0, 1) := dk_42 (dk_at dksX6_clearTelling_1 17 rfl rfl)
theorem dX6_clearTelling_42 : decode cX6_clearTelling 42 = .ok (.getfield 7, 3) := dk_180 0 7 (dk_at dksX6_clearTelling_1 18 rfl rfl)
theorem dX6_clearTelling_45 : decode cX6_clearTelling 45 = .ok (.iconst 3, 1) := dk_6 (dk_at dksX6_clearTelling_1 21 rfl rfl)
theorem dX6_clearTelling_46 : decode cX6_clearTelling 46 = .ok (.iload_n 1, 1) := dk_27 (dk_at dksX6_clearTelling_1 22 rfl rfl)
theorem dX6_clearTelling_47 : decode cX6_clearTelling 47 = .ok (.iadd, 1) := dk_96 (dk_at dksX6_clearTelling_1 23 rfl rfl)
theorem dX6_clearTelling_48 : decode cX6_clearTelling 48 = .ok (.iconst 0, 1) := dk_3 (dk_at dksX6_clearTelling_2 0 rfl rfl)
theorem dX6_clearTelling_49 : decode cX6_clearTelling 49 = .ok (.iastore, 1) := dk_79 (dk_at dksX6_clearTelling_2 1 rfl rfl)
theorem dX6_clearTelling_50 : decode cX6_clearTelling 50 = .ok (.aload_n 0, 1) := dk_42 (dk_at dksX6_clearTelling_2 2 rfl rfl)
theorem dX6_clearTelling_51 : decode cX6_clearTelling 51 = .ok (.invokevirtual 230, 3) := dk_182 0 230 (dk_at dksX6_clearTelling_2 3 rfl rfl)
theorem dX6_clearTelling_54 : decode cX6_clearTelling 54 = .ok (.ireturn, 1) := dk_172 (dk_at dksX6_clearTelling_2 6 rfl rfl)
abbrev cX6_tellings : ByteArray := prog_10_method_26_code
def yX6_tellings : MethodName := ⟨RX6, "tellings", "()I"⟩
def dkwX6_tellings_1 : List UInt8 := [4, 167, 0, 4, 3, 184, 0, 80, 96, 60, 132, 2, 1, 167, 255, 223, 27, 172]
abbrev dktX6_tellings_1 : List UInt8 := dkwX6_tellings_1 ++ []
def dkwX6_tellings_0 : List UInt8 := [3, 60, 3, 61, 28, 42, 182, 0, 74, 162, 0, 31, 27, 42, 180, 0, 7, 6, 28, 96, 46, 158, 0, 7]
abbrev dktX6_tellings_0 : List UInt8 := dkwX6_tellings_0 ++ dktX6_tellings_1
theorem dksX6_tellings_0 : cX6_tellings.data.toList.drop 0 = dktX6_tellings_0 := by decide +kernel
theorem dksX6_tellings_1 : cX6_tellings.data.toList.drop 24 = dktX6_tellings_1 := dk_seg dksX6_tellings_0 24 rfl rfl
theorem dX6_tellings_0 : decode cX6_tellings 0 = .ok (.iconst 0, 1) := dk_3 (dk_at dksX6_tellings_0 0 rfl rfl)
theorem dX6_tellings_1 : decode cX6_tellings 1 = .ok (.istore_n 1, 1) := dk_60 (dk_at dksX6_tellings_0 1 rfl rfl)
theorem dX6_tellings_2 : decode cX6_tellings 2 = .ok (.iconst 0, 1) := dk_3 (dk_at dksX6_tellings_0 2 rfl rfl)
theorem dX6_tellings_3 : decode cX6_tellings 3 = .ok (.istore_n 2, 1) := dk_61 (dk_at dksX6_tellings_0 3 rfl rfl)
theorem dX6_tellings_4 : decode cX6_tellings 4 = .ok (.iload_n 2, 1) := dk_28 (dk_at dksX6_tellings_0 4 rfl rfl)
theorem dX6_tellings_5 : decode cX6_tellings 5 = .ok (.aload_n 0, 1) := dk_42 (dk_at dksX6_tellings_0 5 rfl rfl)
theorem dX6_tellings_6 : decode cX6_tellings 6 = .ok (.invokevirtual 74, 3) := dk_182 0 74 (dk_at dksX6_tellings_0 6 rfl rfl)
theorem dX6_tellings_9 : decode cX6_tellings 9 = .ok (.if_icmp .ge 31, 3) := dk_162 0 31 (dk_at dksX6_tellings_0 9 rfl rfl)
theorem dX6_tellings_12 : decode cX6_tellings 12 = .ok (.iload_n 1, 1) := dk_27 (dk_at dksX6_tellings_0 12 rfl rfl)
theorem dX6_tellings_13 : decode cX6_tellings 13 = .ok (.aload_n 0, 1) := dk_42 (dk_at dksX6_tellings_0 13 rfl rfl)
theorem dX6_tellings_14 : decode cX6_tellings 14 = .ok (.getfield 7, 3) := dk_180 0 7 (dk_at dksX6_tellings_0 14 rfl rfl)
theorem dX6_tellings_17 : decode cX6_tellings 17 = .ok (.iconst 3, 1) := dk_6 (dk_at dksX6_tellings_0 17 rfl rfl)
theorem dX6_tellings_18 : decode cX6_tellings 18 = .ok (.iload_n 2, 1) := dk_28 (dk_at dksX6_tellings_0 18 rfl rfl)
theorem dX6_tellings_19 : decode cX6_tellings 19 = .ok (.iadd, 1) := dk_96 (dk_at dksX6_tellings_0 19 rfl rfl)
theorem dX6_tellings_20 : decode cX6_tellings 20 = .ok (.iaload, 1) := dk_46 (dk_at dksX6_tellings_0 20 rfl rfl)
theorem dX6_tellings_21 : decode cX6_tellings 21 = .ok (.ifCond .le 7, 3) := dk_158 0 7 (dk_at dksX6_tellings_0 21 rfl rfl)
theorem dX6_tellings_24 : decode cX6_tellings 24 = .ok (.iconst 1, 1) := dk_4 (dk_at dksX6_tellings_1 0 rfl rfl)
theorem dX6_tellings_25 : decode cX6_tellings 25 = .ok (.goto 4, 3) := dk_167 0 4 (dk_at dksX6_tellings_1 1 rfl rfl)
theorem dX6_tellings_28 : decode cX6_tellings 28 = .ok (.iconst 0, 1) := dk_3 (dk_at dksX6_tellings_1 4 rfl rfl)
theorem dX6_tellings_29 : decode cX6_tellings 29 = .ok (.invokestatic 80, 3) := dk_184 0 80 (dk_at dksX6_tellings_1 5 rfl rfl)
theorem dX6_tellings_32 : decode cX6_tellings 32 = .ok (.iadd, 1) := dk_96 (dk_at dksX6_tellings_1 8 rfl rfl)
theorem dX6_tellings_33 : decode cX6_tellings 33 = .ok (.istore_n 1, 1) := dk_60 (dk_at dksX6_tellings_1 9 rfl rfl)
theorem dX6_tellings_34 : decode cX6_tellings 34 = .ok (.iinc 2 1, 3) := dk_132 2 1 (dk_at dksX6_tellings_1 10 rfl rfl)
theorem dX6_tellings_37 : decode cX6_tellings 37 = .ok (.goto (-33), 3) := dk_167 255 223 (dk_at dksX6_tellings_1 13 rfl rfl)
theorem dX6_tellings_40 : decode cX6_tellings 40 = .ok (.iload_n 1, 1) := dk_27 (dk_at dksX6_tellings_1 16 rfl rfl)
theorem dX6_tellings_41 : decode cX6_tellings 41 = .ok (.ireturn, 1) := dk_172 (dk_at dksX6_tellings_1 17 rfl rfl)
abbrev cX6_tellFirsts : ByteArray := prog_10_method_65_code
def yX6_tellFirsts : MethodName := ⟨RX6, "tellFirsts", "()I"⟩
def dkwX6_tellFirsts_4 : List UInt8 := [182, 0, 226, 54, 5, 132, 2, 1, 167, 255, 173, 42, 182, 0, 230, 172]
abbrev dktX6_tellFirsts_4 : List UInt8 := dkwX6_tellFirsts_4 ++ []
def dkwX6_tellFirsts_3 : List UInt8 := [162, 0, 9, 27, 28, 96, 167, 0, 6, 27, 28, 96, 42, 180, 0, 24, 7, 29, 104, 5, 96, 46, 3]
abbrev dktX6_tellFirsts_3 : List UInt8 := dkwX6_tellFirsts_3 ++ dktX6_tellFirsts_4
def dkwX6_tellFirsts_2 : List UInt8 := [96, 167, 0, 6, 28, 27, 100, 42, 180, 0, 24, 7, 29, 104, 46, 3, 182, 0, 226, 54, 4, 42, 28, 27]
abbrev dktX6_tellFirsts_2 : List UInt8 := dkwX6_tellFirsts_2 ++ dktX6_tellFirsts_3
def dkwX6_tellFirsts_1 : List UInt8 := [162, 0, 82, 42, 28, 182, 0, 233, 62, 29, 2, 159, 0, 65, 42, 28, 27, 162, 0, 11, 6, 27, 104, 28]
abbrev dktX6_tellFirsts_1 : List UInt8 := dkwX6_tellFirsts_1 ++ dktX6_tellFirsts_2
def dkwX6_tellFirsts_0 : List UInt8 := [42, 3, 181, 0, 55, 42, 182, 0, 214, 42, 180, 0, 7, 3, 46, 60, 3, 61, 28, 5, 27, 104]
abbrev dktX6_tellFirsts_0 : List UInt8 := dkwX6_tellFirsts_0 ++ dktX6_tellFirsts_1
theorem dksX6_tellFirsts_0 : cX6_tellFirsts.data.toList.drop 0 = dktX6_tellFirsts_0 := by decide +kernel
theorem dksX6_tellFirsts_1 : cX6_tellFirsts.data.toList.drop 22 = dktX6_tellFirsts_1 := dk_seg dksX6_tellFirsts_0 22 rfl rfl
theorem dksX6_tellFirsts_2 : cX6_tellFirsts.data.toList.drop 46 = dktX6_tellFirsts_2 := dk_seg dksX6_tellFirsts_1 24 rfl rfl
theorem dksX6_tellFirsts_3 : cX6_tellFirsts.data.toList.drop 70 = dktX6_tellFirsts_3 := dk_seg dksX6_tellFirsts_2 24 rfl rfl
theorem dksX6_tellFirsts_4 : cX6_tellFirsts.data.toList.drop 93 = dktX6_tellFirsts_4 := dk_seg dksX6_tellFirsts_3 23 rfl rfl
theorem dX6_tellFirsts_0 : decode cX6_tellFirsts 0 = .ok (.aload_n 0, 1) := dk_42 (dk_at dksX6_tellFirsts_0 0 rfl rfl)
theorem dX6_tellFirsts_1 : decode cX6_tellFirsts 1 = .ok (.iconst 0, 1) := dk_3 (dk_at dksX6_tellFirsts_0 1 rfl rfl)
theorem dX6_tellFirsts_2 : decode cX6_tellFirsts 2 = .ok (.putfield 55, 3) := dk_181 0 55 (dk_at dksX6_tellFirsts_0 2 rfl rfl)
theorem dX6_tellFirsts_5 : decode cX6_tellFirsts 5 = .ok (.aload_n 0, 1) := dk_42 (dk_at dksX6_tellFirsts_0 5 rfl rfl)
theorem dX6_tellFirsts_6 : decode cX6_tellFirsts 6 = .ok (.invokevirtual 214, 3) := dk_182 0 214 (dk_at dksX6_tellFirsts_0 6 rfl rfl)
theorem dX6_tellFirsts_9 : decode cX6_tellFirsts 9 = .ok (.aload_n 0, 1) := dk_42 (dk_at dksX6_tellFirsts_0 9 rfl rfl)
theorem dX6_tellFirsts_10 : decode cX6_tellFirsts 10 = .ok (.getfield 7, 3) := dk_180 0 7 (dk_at dksX6_tellFirsts_0 10 rfl rfl)
theorem dX6_tellFirsts_13 : decode cX6_tellFirsts 13 = .ok (.iconst 0, 1) := dk_3 (dk_at dksX6_tellFirsts_0 13 rfl rfl)
theorem dX6_tellFirsts_14 : decode cX6_tellFirsts 14 = .ok (.iaload, 1) := dk_46 (dk_at dksX6_tellFirsts_0 14 rfl rfl)
theorem dX6_tellFirsts_15 : decode cX6_tellFirsts 15 = .ok (.istore_n 1, 1) := dk_60 (dk_at dksX6_tellFirsts_0 15 rfl rfl)
theorem dX6_tellFirsts_16 : decode cX6_tellFirsts 16 = .ok (.iconst 0, 1) := dk_3 (dk_at dksX6_tellFirsts_0 16 rfl rfl)
theorem dX6_tellFirsts_17 : decode cX6_tellFirsts 17 = .ok (.istore_n 2, 1) := dk_61 (dk_at dksX6_tellFirsts_0 17 rfl rfl)
theorem dX6_tellFirsts_18 : decode cX6_tellFirsts 18 = .ok (.iload_n 2, 1) := dk_28 (dk_at dksX6_tellFirsts_0 18 rfl rfl)
theorem dX6_tellFirsts_19 : decode cX6_tellFirsts 19 = .ok (.iconst 2, 1) := dk_5 (dk_at dksX6_tellFirsts_0 19 rfl rfl)
theorem dX6_tellFirsts_20 : decode cX6_tellFirsts 20 = .ok (.iload_n 1, 1) := dk_27 (dk_at dksX6_tellFirsts_0 20 rfl rfl)
theorem dX6_tellFirsts_21 : decode cX6_tellFirsts 21 = .ok (.imul, 1) := dk_104 (dk_at dksX6_tellFirsts_0 21 rfl rfl)
theorem dX6_tellFirsts_22 : decode cX6_tellFirsts 22 = .ok (.if_icmp .ge 82, 3) := dk_162 0 82 (dk_at dksX6_tellFirsts_1 0 rfl rfl)
theorem dX6_tellFirsts_25 : decode cX6_tellFirsts 25 = .ok (.aload_n 0, 1) := dk_42 (dk_at dksX6_tellFirsts_1 3 rfl rfl)
theorem dX6_tellFirsts_26 : decode cX6_tellFirsts 26 = .ok (.iload_n 2, 1) := dk_28 (dk_at dksX6_tellFirsts_1 4 rfl rfl)
theorem dX6_tellFirsts_27 : decode cX6_tellFirsts 27 = .ok (.invokevirtual 233, 3) := dk_182 0 233 (dk_at dksX6_tellFirsts_1 5 rfl rfl)
theorem dX6_tellFirsts_30 : decode cX6_tellFirsts 30 = .ok (.istore_n 3, 1) := dk_62 (dk_at dksX6_tellFirsts_1 8 rfl rfl)
theorem dX6_tellFirsts_31 : decode cX6_tellFirsts 31 = .ok (.iload_n 3, 1) := dk_29 (dk_at dksX6_tellFirsts_1 9 rfl rfl)
theorem dX6_tellFirsts_32 : decode cX6_tellFirsts 32 = .ok (.iconst (-1), 1) := dk_2 (dk_at dksX6_tellFirsts_1 10 rfl rfl)
theorem dX6_tellFirsts_33 : decode cX6_tellFirsts 33 = .ok (.if_icmp .eq 65, 3) := dk_159 0 65 (dk_at dksX6_tellFirsts_1 11 rfl rfl)
theorem dX6_tellFirsts_36 : decode cX6_tellFirsts 36 = .ok (.aload_n 0, 1) := dk_42 (dk_at dksX6_tellFirsts_1 14 rfl rfl)
theorem dX6_tellFirsts_37 : decode cX6_tellFirsts 37 = .ok (.iload_n 2, 1) := dk_28 (dk_at dksX6_tellFirsts_1 15 rfl rfl)
theorem dX6_tellFirsts_38 : decode cX6_tellFirsts 38 = .ok (.iload_n 1, 1) := dk_27 (dk_at dksX6_tellFirsts_1 16 rfl rfl)
theorem dX6_tellFirsts_39 : decode cX6_tellFirsts 39 = .ok (.if_icmp .ge 11, 3) := dk_162 0 11 (dk_at dksX6_tellFirsts_1 17 rfl rfl)
theorem dX6_tellFirsts_42 : decode cX6_tellFirsts 42 = .ok (.iconst 3, 1) := dk_6 (dk_at dksX6_tellFirsts_1 20 rfl rfl)
theorem dX6_tellFirsts_43 : decode cX6_tellFirsts 43 = .ok (.iload_n 1, 1) := dk_27 (dk_at dksX6_tellFirsts_1 21 rfl rfl)
theorem dX6_tellFirsts_44 : decode cX6_tellFirsts 44 = .ok (.imul, 1) := dk_104 (dk_at dksX6_tellFirsts_1 22 rfl rfl)
theorem dX6_tellFirsts_45 : decode cX6_tellFirsts 45 = .ok (.iload_n 2, 1) := dk_28 (dk_at dksX6_tellFirsts_1 23 rfl rfl)
theorem dX6_tellFirsts_46 : decode cX6_tellFirsts 46 = .ok (.iadd, 1) := dk_96 (dk_at dksX6_tellFirsts_2 0 rfl rfl)
theorem dX6_tellFirsts_47 : decode cX6_tellFirsts 47 = .ok (.goto 6, 3) := dk_167 0 6 (dk_at dksX6_tellFirsts_2 1 rfl rfl)
theorem dX6_tellFirsts_50 : decode cX6_tellFirsts 50 = .ok (.iload_n 2, 1) := dk_28 (dk_at dksX6_tellFirsts_2 4 rfl rfl)
theorem dX6_tellFirsts_51 : decode cX6_tellFirsts 51 = .ok (.iload_n 1, 1) := dk_27 (dk_at dksX6_tellFirsts_2 5 rfl rfl)
theorem dX6_tellFirsts_52 : decode cX6_tellFirsts 52 = .ok (.isub, 1) := dk_100 (dk_at dksX6_tellFirsts_2 6 rfl rfl)
theorem dX6_tellFirsts_53 : decode cX6_tellFirsts 53 = .ok (.aload_n 0, 1) := dk_42 (dk_at dksX6_tellFirsts_2 7 rfl rfl)
theorem dX6_tellFirsts_54 : decode cX6_tellFirsts 54 = .ok (.getfield 24, 3) := dk_180 0 24 (dk_at dksX6_tellFirsts_2 8 rfl rfl)
theorem dX6_tellFirsts_57 : decode cX6_tellFirsts 57 = .ok (.iconst 4, 1) := dk_7 (dk_at dksX6_tellFirsts_2 11 rfl rfl)
theorem dX6_tellFirsts_58 : decode cX6_tellFirsts 58 = .ok (.iload_n 3, 1) := dk_29 (dk_at dksX6_tellFirsts_2 12 rfl rfl)
theorem dX6_tellFirsts_59 : decode cX6_tellFirsts 59 = .ok (.imul, 1) := dk_104 (dk_at dksX6_tellFirsts_2 13 rfl rfl)
theorem dX6_tellFirsts_60 : decode cX6_tellFirsts 60 = .ok (.iaload, 1) := dk_46 (dk_at dksX6_tellFirsts_2 14 rfl rfl)
theorem dX6_tellFirsts_61 : decode cX6_tellFirsts 61 = .ok (.iconst 0, 1) := dk_3 (dk_at dksX6_tellFirsts_2 15 rfl rfl)
theorem dX6_tellFirsts_62 : decode cX6_tellFirsts 62 = .ok (.invokevirtual 226, 3) := dk_182 0 226 (dk_at dksX6_tellFirsts_2 16 rfl rfl)
theorem dX6_tellFirsts_65 : decode cX6_tellFirsts 65 = .ok (.istore 4, 2) := dk_54 4 (dk_at dksX6_tellFirsts_2 19 rfl rfl)
theorem dX6_tellFirsts_67 : decode cX6_tellFirsts 67 = .ok (.aload_n 0, 1) := dk_42 (dk_at dksX6_tellFirsts_2 21 rfl rfl)
theorem dX6_tellFirsts_68 : decode cX6_tellFirsts 68 = .ok (.iload_n 2, 1) := dk_28 (dk_at dksX6_tellFirsts_2 22 rfl rfl)
theorem dX6_tellFirsts_69 : decode cX6_tellFirsts 69 = .ok (.iload_n 1, 1) := dk_27 (dk_at dksX6_tellFirsts_2 23 rfl rfl)
theorem dX6_tellFirsts_70 : decode cX6_tellFirsts 70 = .ok (.if_icmp .ge 9, 3) := dk_162 0 9 (dk_at dksX6_tellFirsts_3 0 rfl rfl)
theorem dX6_tellFirsts_73 : decode cX6_tellFirsts 73 = .ok (.iload_n 1, 1) := dk_27 (dk_at dksX6_tellFirsts_3 3 rfl rfl)
theorem dX6_tellFirsts_74 : decode cX6_tellFirsts 74 = .ok (.iload_n 2, 1) := dk_28 (dk_at dksX6_tellFirsts_3 4 rfl rfl)
theorem dX6_tellFirsts_75 : decode cX6_tellFirsts 75 = .ok (.iadd, 1) := dk_96 (dk_at dksX6_tellFirsts_3 5 rfl rfl)
theorem dX6_tellFirsts_76 : decode cX6_tellFirsts 76 = .ok (.goto 6, 3) := dk_167 0 6 (dk_at dksX6_tellFirsts_3 6 rfl rfl)
theorem dX6_tellFirsts_79 : decode cX6_tellFirsts 79 = .ok (.iload_n 1, 1) := dk_27 (dk_at dksX6_tellFirsts_3 9 rfl rfl)
theorem dX6_tellFirsts_80 : decode cX6_tellFirsts 80 = .ok (.iload_n 2, 1) := dk_28 (dk_at dksX6_tellFirsts_3 10 rfl rfl)
theorem dX6_tellFirsts_81 : decode cX6_tellFirsts 81 = .ok (.iadd, 1) := dk_96 (dk_at dksX6_tellFirsts_3 11 rfl rfl)
theorem dX6_tellFirsts_82 : decode cX6_tellFirsts 82 = .ok (.aload_n 0, 1) := dk_42 (dk_at dksX6_tellFirsts_3 12 rfl rfl)
theorem dX6_tellFirsts_83 : decode cX6_tellFirsts 83 = .ok (.getfield 24, 3) := dk_180 0 24 (dk_at dksX6_tellFirsts_3 13 rfl rfl)
theorem dX6_tellFirsts_86 : decode cX6_tellFirsts 86 = .ok (.iconst 4, 1) := dk_7 (dk_at dksX6_tellFirsts_3 16 rfl rfl)
theorem dX6_tellFirsts_87 : decode cX6_tellFirsts 87 = .ok (.iload_n 3, 1) := dk_29 (dk_at dksX6_tellFirsts_3 17 rfl rfl)
theorem dX6_tellFirsts_88 : decode cX6_tellFirsts 88 = .ok (.imul, 1) := dk_104 (dk_at dksX6_tellFirsts_3 18 rfl rfl)
theorem dX6_tellFirsts_89 : decode cX6_tellFirsts 89 = .ok (.iconst 2, 1) := dk_5 (dk_at dksX6_tellFirsts_3 19 rfl rfl)
theorem dX6_tellFirsts_90 : decode cX6_tellFirsts 90 = .ok (.iadd, 1) := dk_96 (dk_at dksX6_tellFirsts_3 20 rfl rfl)
theorem dX6_tellFirsts_91 : decode cX6_tellFirsts 91 = .ok (.iaload, 1) := dk_46 (dk_at dksX6_tellFirsts_3 21 rfl rfl)
theorem dX6_tellFirsts_92 : decode cX6_tellFirsts 92 = .ok (.iconst 0, 1) := dk_3 (dk_at dksX6_tellFirsts_3 22 rfl rfl)
theorem dX6_tellFirsts_93 : decode cX6_tellFirsts 93 = .ok (.invokevirtual 226, 3) := dk_182 0 226 (dk_at dksX6_tellFirsts_4 0 rfl rfl)
theorem dX6_tellFirsts_96 : decode cX6_tellFirsts 96 = .ok (.istore 5, 2) := dk_54 5 (dk_at dksX6_tellFirsts_4 3 rfl rfl)
theorem dX6_tellFirsts_98 : decode cX6_tellFirsts 98 = .ok (.iinc 2 1, 3) := dk_132 2 1 (dk_at dksX6_tellFirsts_4 5 rfl rfl)
theorem dX6_tellFirsts_101 : decode cX6_tellFirsts 101 = .ok (.goto (-83), 3) := dk_167 255 173 (dk_at dksX6_tellFirsts_4 8 rfl rfl)
theorem dX6_tellFirsts_104 : decode cX6_tellFirsts 104 = .ok (.aload_n 0, 1) := dk_42 (dk_at dksX6_tellFirsts_4 11 rfl rfl)
theorem dX6_tellFirsts_105 : decode cX6_tellFirsts 105 = .ok (.invokevirtual 230, 3) := dk_182 0 230 (dk_at dksX6_tellFirsts_4 12 rfl rfl)
theorem dX6_tellFirsts_108 : decode cX6_tellFirsts 108 = .ok (.ireturn, 1) := dk_172 (dk_at dksX6_tellFirsts_4 15 rfl rfl)
abbrev cX6_arrangementOf : ByteArray := prog_10_method_64_code
def yX6_arrangementOf : MethodName := ⟨RX6, "arrangementOf", "(I)I"⟩
def dkwX6_arrangementOf_4 : List UInt8 := [132, 3, 1, 167, 255, 168, 28, 172]
abbrev dktX6_arrangementOf_4 : List UInt8 := dkwX6_arrangementOf_4 ++ []
def dkwX6_arrangementOf_3 : List UInt8 := [167, 0, 4, 3, 54, 4, 132, 5, 1, 167, 255, 199, 21, 4, 153, 0, 7, 29, 167, 0, 4, 28, 61]
abbrev dktX6_arrangementOf_3 : List UInt8 := dkwX6_arrangementOf_3 ++ dktX6_arrangementOf_4
def dkwX6_arrangementOf_2 : List UInt8 := [182, 0, 99, 96, 46, 4, 42, 180, 0, 21, 8, 29, 104, 21, 5, 96, 46, 120, 160, 0, 7, 4]
abbrev dktX6_arrangementOf_2 : List UInt8 := dkwX6_arrangementOf_2 ++ dktX6_arrangementOf_3
def dkwX6_arrangementOf_1 : List UInt8 := [42, 180, 0, 7, 3, 46, 162, 0, 52, 21, 4, 153, 0, 38, 42, 180, 0, 7, 16, 23, 42, 27, 21, 5]
abbrev dktX6_arrangementOf_1 : List UInt8 := dkwX6_arrangementOf_1 ++ dktX6_arrangementOf_2
def dkwX6_arrangementOf_0 : List UInt8 := [42, 182, 0, 113, 2, 61, 3, 62, 29, 42, 180, 0, 93, 162, 0, 86, 4, 54, 4, 3, 54, 5, 21, 5]
abbrev dktX6_arrangementOf_0 : List UInt8 := dkwX6_arrangementOf_0 ++ dktX6_arrangementOf_1
theorem dksX6_arrangementOf_0 : cX6_arrangementOf.data.toList.drop 0 = dktX6_arrangementOf_0 := by decide +kernel
theorem dksX6_arrangementOf_1 : cX6_arrangementOf.data.toList.drop 24 = dktX6_arrangementOf_1 := dk_seg dksX6_arrangementOf_0 24 rfl rfl
theorem dksX6_arrangementOf_2 : cX6_arrangementOf.data.toList.drop 48 = dktX6_arrangementOf_2 := dk_seg dksX6_arrangementOf_1 24 rfl rfl
theorem dksX6_arrangementOf_3 : cX6_arrangementOf.data.toList.drop 70 = dktX6_arrangementOf_3 := dk_seg dksX6_arrangementOf_2 22 rfl rfl
theorem dksX6_arrangementOf_4 : cX6_arrangementOf.data.toList.drop 93 = dktX6_arrangementOf_4 := dk_seg dksX6_arrangementOf_3 23 rfl rfl
theorem dX6_arrangementOf_0 : decode cX6_arrangementOf 0 = .ok (.aload_n 0, 1) := dk_42 (dk_at dksX6_arrangementOf_0 0 rfl rfl)
theorem dX6_arrangementOf_1 : decode cX6_arrangementOf 1 = .ok (.invokevirtual 113, 3) := dk_182 0 113 (dk_at dksX6_arrangementOf_0 1 rfl rfl)
theorem dX6_arrangementOf_4 : decode cX6_arrangementOf 4 = .ok (.iconst (-1), 1) := dk_2 (dk_at dksX6_arrangementOf_0 4 rfl rfl)
theorem dX6_arrangementOf_5 : decode cX6_arrangementOf 5 = .ok (.istore_n 2, 1) := dk_61 (dk_at dksX6_arrangementOf_0 5 rfl rfl)
theorem dX6_arrangementOf_6 : decode cX6_arrangementOf 6 = .ok (.iconst 0, 1) := dk_3 (dk_at dksX6_arrangementOf_0 6 rfl rfl)
theorem dX6_arrangementOf_7 : decode cX6_arrangementOf 7 = .ok (.istore_n 3, 1) := dk_62 (dk_at dksX6_arrangementOf_0 7 rfl rfl)
theorem dX6_arrangementOf_8 : decode cX6_arrangementOf 8 = .ok (.iload_n 3, 1) := dk_29 (dk_at dksX6_arrangementOf_0 8 rfl rfl)
theorem dX6_arrangementOf_9 : decode cX6_arrangementOf 9 = .ok (.aload_n 0, 1) := dk_42 (dk_at dksX6_arrangementOf_0 9 rfl rfl)
theorem dX6_arrangementOf_10 : decode cX6_arrangementOf 10 = .ok (.getfield 93, 3) := dk_180 0 93 (dk_at dksX6_arrangementOf_0 10 rfl rfl)
theorem dX6_arrangementOf_13 : decode cX6_arrangementOf 13 = .ok (.if_icmp .ge 86, 3) := dk_162 0 86 (dk_at dksX6_arrangementOf_0 13 rfl rfl)
theorem dX6_arrangementOf_16 : decode cX6_arrangementOf 16 = .ok (.iconst 1, 1) := dk_4 (dk_at dksX6_arrangementOf_0 16 rfl rfl)
theorem dX6_arrangementOf_17 : decode cX6_arrangementOf 17 = .ok (.istore 4, 2) := dk_54 4 (dk_at dksX6_arrangementOf_0 17 rfl rfl)
theorem dX6_arrangementOf_19 : decode cX6_arrangementOf 19 = .ok (.iconst 0, 1) := dk_3 (dk_at dksX6_arrangementOf_0 19 rfl rfl)
theorem dX6_arrangementOf_20 : decode cX6_arrangementOf 20 = .ok (.istore 5, 2) := dk_54 5 (dk_at dksX6_arrangementOf_0 20 rfl rfl)
theorem dX6_arrangementOf_22 : decode cX6_arrangementOf 22 = .ok (.iload 5, 2) := dk_21 5 (dk_at dksX6_arrangementOf_0 22 rfl rfl)
theorem dX6_arrangementOf_24 : decode cX6_arrangementOf 24 = .ok (.aload_n 0, 1) := dk_42 (dk_at dksX6_arrangementOf_1 0 rfl rfl)
theorem dX6_arrangementOf_25 : decode cX6_arrangementOf 25 = .ok (.getfield 7, 3) := dk_180 0 7 (dk_at dksX6_arrangementOf_1 1 rfl rfl)
theorem dX6_arrangementOf_28 : decode cX6_arrangementOf 28 = .ok (.iconst 0, 1) := dk_3 (dk_at dksX6_arrangementOf_1 4 rfl rfl)
theorem dX6_arrangementOf_29 : decode cX6_arrangementOf 29 = .ok (.iaload, 1) := dk_46 (dk_at dksX6_arrangementOf_1 5 rfl rfl)
theorem dX6_arrangementOf_30 : decode cX6_arrangementOf 30 = .ok (.if_icmp .ge 52, 3) := dk_162 0 52 (dk_at dksX6_arrangementOf_1 6 rfl rfl)
theorem dX6_arrangementOf_33 : decode cX6_arrangementOf 33 = .ok (.iload 4, 2) := dk_21 4 (dk_at dksX6_arrangementOf_1 9 rfl rfl)
theorem dX6_arrangementOf_35 : decode cX6_arrangementOf 35 = .ok (.ifCond .eq 38, 3) := dk_153 0 38 (dk_at dksX6_arrangementOf_1 11 rfl rfl)
theorem dX6_arrangementOf_38 : decode cX6_arrangementOf 38 = .ok (.aload_n 0, 1) := dk_42 (dk_at dksX6_arrangementOf_1 14 rfl rfl)
theorem dX6_arrangementOf_39 : decode cX6_arrangementOf 39 = .ok (.getfield 7, 3) := dk_180 0 7 (dk_at dksX6_arrangementOf_1 15 rfl rfl)
theorem dX6_arrangementOf_42 : decode cX6_arrangementOf 42 = .ok (.bipush 23, 2) := dk_16 23 (dk_at dksX6_arrangementOf_1 18 rfl rfl)
theorem dX6_arrangementOf_44 : decode cX6_arrangementOf 44 = .ok (.aload_n 0, 1) := dk_42 (dk_at dksX6_arrangementOf_1 20 rfl rfl)
theorem dX6_arrangementOf_45 : decode cX6_arrangementOf 45 = .ok (.iload_n 1, 1) := dk_27 (dk_at dksX6_arrangementOf_1 21 rfl rfl)
theorem dX6_arrangementOf_46 : decode cX6_arrangementOf 46 = .ok (.iload 5, 2) := dk_21 5 (dk_at dksX6_arrangementOf_1 22 rfl rfl)
theorem dX6_arrangementOf_48 : decode cX6_arrangementOf 48 = .ok (.invokevirtual 99, 3) := dk_182 0 99 (dk_at dksX6_arrangementOf_2 0 rfl rfl)
theorem dX6_arrangementOf_51 : decode cX6_arrangementOf 51 = .ok (.iadd, 1) := dk_96 (dk_at dksX6_arrangementOf_2 3 rfl rfl)
theorem dX6_arrangementOf_52 : decode cX6_arrangementOf 52 = .ok (.iaload, 1) := dk_46 (dk_at dksX6_arrangementOf_2 4 rfl rfl)
theorem dX6_arrangementOf_53 : decode cX6_arrangementOf 53 = .ok (.iconst 1, 1) := dk_4 (dk_at dksX6_arrangementOf_2 5 rfl rfl)
theorem dX6_arrangementOf_54 : decode cX6_arrangementOf 54 = .ok (.aload_n 0, 1) := dk_42 (dk_at dksX6_arrangementOf_2 6 rfl rfl)
theorem dX6_arrangementOf_55 : decode cX6_arrangementOf 55 = .ok (.getfield 21, 3) := dk_180 0 21 (dk_at dksX6_arrangementOf_2 7 rfl rfl)
theorem dX6_arrangementOf_58 : decode cX6_arrangementOf 58 = .ok (.iconst 5, 1) := dk_8 (dk_at dksX6_arrangementOf_2 10 rfl rfl)
theorem dX6_arrangementOf_59 : decode cX6_arrangementOf 59 = .ok (.iload_n 3, 1) := dk_29 (dk_at dksX6_arrangementOf_2 11 rfl rfl)
theorem dX6_arrangementOf_60 : decode cX6_arrangementOf 60 = .ok (.imul, 1) := dk_104 (dk_at dksX6_arrangementOf_2 12 rfl rfl)
theorem dX6_arrangementOf_61 : decode cX6_arrangementOf 61 = .ok (.iload 5, 2) := dk_21 5 (dk_at dksX6_arrangementOf_2 13 rfl rfl)
theorem dX6_arrangementOf_63 : decode cX6_arrangementOf 63 = .ok (.iadd, 1) := dk_96 (dk_at dksX6_arrangementOf_2 15 rfl rfl)
theorem dX6_arrangementOf_64 : decode cX6_arrangementOf 64 = .ok (.iaload, 1) := dk_46 (dk_at dksX6_arrangementOf_2 16 rfl rfl)
theorem dX6_arrangementOf_65 : decode cX6_arrangementOf 65 = .ok (.ishl, 1) := dk_120 (dk_at dksX6_arrangementOf_2 17 rfl rfl)
theorem dX6_arrangementOf_66 : decode cX6_arrangementOf 66 = .ok (.if_icmp .ne 7, 3) := dk_160 0 7 (dk_at dksX6_arrangementOf_2 18 rfl rfl)
theorem dX6_arrangementOf_69 : decode cX6_arrangementOf 69 = .ok (.iconst 1, 1) := dk_4 (dk_at dksX6_arrangementOf_2 21 rfl rfl)
theorem dX6_arrangementOf_70 : decode cX6_arrangementOf 70 = .ok (.goto 4, 3) := dk_167 0 4 (dk_at dksX6_arrangementOf_3 0 rfl rfl)
theorem dX6_arrangementOf_73 : decode cX6_arrangementOf 73 = .ok (.iconst 0, 1) := dk_3 (dk_at dksX6_arrangementOf_3 3 rfl rfl)
theorem dX6_arrangementOf_74 : decode cX6_arrangementOf 74 = .ok (.istore 4, 2) := dk_54 4 (dk_at dksX6_arrangementOf_3 4 rfl rfl)
theorem dX6_arrangementOf_76 : decode cX6_arrangementOf 76 = .ok (.iinc 5 1, 3) := dk_132 5 1 (dk_at dksX6_arrangementOf_3 6 rfl rfl)
theorem dX6_arrangementOf_79 : decode cX6_arrangementOf 79 = .ok (.goto (-57), 3) := dk_167 255 199 (dk_at dksX6_arrangementOf_3 9 rfl rfl)
theorem dX6_arrangementOf_82 : decode cX6_arrangementOf 82 = .ok (.iload 4, 2) := dk_21 4 (dk_at dksX6_arrangementOf_3 12 rfl rfl)
theorem dX6_arrangementOf_84 : decode cX6_arrangementOf 84 = .ok (.ifCond .eq 7, 3) := dk_153 0 7 (dk_at dksX6_arrangementOf_3 14 rfl rfl)
theorem dX6_arrangementOf_87 : decode cX6_arrangementOf 87 = .ok (.iload_n 3, 1) := dk_29 (dk_at dksX6_arrangementOf_3 17 rfl rfl)
theorem dX6_arrangementOf_88 : decode cX6_arrangementOf 88 = .ok (.goto 4, 3) := dk_167 0 4 (dk_at dksX6_arrangementOf_3 18 rfl rfl)
theorem dX6_arrangementOf_91 : decode cX6_arrangementOf 91 = .ok (.iload_n 2, 1) := dk_28 (dk_at dksX6_arrangementOf_3 21 rfl rfl)
theorem dX6_arrangementOf_92 : decode cX6_arrangementOf 92 = .ok (.istore_n 2, 1) := dk_61 (dk_at dksX6_arrangementOf_3 22 rfl rfl)
theorem dX6_arrangementOf_93 : decode cX6_arrangementOf 93 = .ok (.iinc 3 1, 3) := dk_132 3 1 (dk_at dksX6_arrangementOf_4 0 rfl rfl)
theorem dX6_arrangementOf_96 : decode cX6_arrangementOf 96 = .ok (.goto (-88), 3) := dk_167 255 168 (dk_at dksX6_arrangementOf_4 3 rfl rfl)
theorem dX6_arrangementOf_99 : decode cX6_arrangementOf 99 = .ok (.iload_n 2, 1) := dk_28 (dk_at dksX6_arrangementOf_4 6 rfl rfl)
theorem dX6_arrangementOf_100 : decode cX6_arrangementOf 100 = .ok (.ireturn, 1) := dk_172 (dk_at dksX6_arrangementOf_4 7 rfl rfl)
abbrev cX6_lists : ByteArray := prog_10_method_28_code
def yX6_lists : MethodName := ⟨RX6, "lists", "()V"⟩
def dkwX6_lists_4 : List UInt8 := [132, 4, 1, 167, 255, 240, 177]
abbrev dktX6_lists_4 : List UInt8 := dkwX6_lists_4 ++ []
def dkwX6_lists_3 : List UInt8 := [62, 132, 4, 1, 167, 255, 243, 3, 54, 4, 21, 4, 29, 162, 0, 16, 42, 21, 4, 28, 182, 0, 96]
abbrev dktX6_lists_3 : List UInt8 := dkwX6_lists_3 ++ dktX6_lists_4
def dkwX6_lists_2 : List UInt8 := [4, 46, 181, 0, 90, 42, 3, 181, 0, 93, 4, 62, 3, 54, 4, 21, 4, 27, 162, 0, 13, 29, 28, 104]
abbrev dktX6_lists_2 : List UInt8 := dkwX6_lists_2 ++ dktX6_lists_3
def dkwX6_lists_1 : List UInt8 := [42, 180, 0, 90, 42, 180, 0, 7, 4, 46, 160, 0, 4, 177, 42, 27, 181, 0, 87, 42, 42, 180, 0, 7]
abbrev dktX6_lists_1 : List UInt8 := dkwX6_lists_1 ++ dktX6_lists_2
def dkwX6_lists_0 : List UInt8 := [42, 180, 0, 7, 3, 46, 60, 42, 180, 0, 7, 4, 46, 4, 96, 61, 42, 180, 0, 87, 27, 160, 0, 17]
abbrev dktX6_lists_0 : List UInt8 := dkwX6_lists_0 ++ dktX6_lists_1
theorem dksX6_lists_0 : cX6_lists.data.toList.drop 0 = dktX6_lists_0 := by decide +kernel
theorem dksX6_lists_1 : cX6_lists.data.toList.drop 24 = dktX6_lists_1 := dk_seg dksX6_lists_0 24 rfl rfl
theorem dksX6_lists_2 : cX6_lists.data.toList.drop 48 = dktX6_lists_2 := dk_seg dksX6_lists_1 24 rfl rfl
theorem dksX6_lists_3 : cX6_lists.data.toList.drop 72 = dktX6_lists_3 := dk_seg dksX6_lists_2 24 rfl rfl
theorem dksX6_lists_4 : cX6_lists.data.toList.drop 95 = dktX6_lists_4 := dk_seg dksX6_lists_3 23 rfl rfl
theorem dX6_lists_0 : decode cX6_lists 0 = .ok (.aload_n 0, 1) := dk_42 (dk_at dksX6_lists_0 0 rfl rfl)
theorem dX6_lists_1 : decode cX6_lists 1 = .ok (.getfield 7, 3) := dk_180 0 7 (dk_at dksX6_lists_0 1 rfl rfl)
theorem dX6_lists_4 : decode cX6_lists 4 = .ok (.iconst 0, 1) := dk_3 (dk_at dksX6_lists_0 4 rfl rfl)
theorem dX6_lists_5 : decode cX6_lists 5 = .ok (.iaload, 1) := dk_46 (dk_at dksX6_lists_0 5 rfl rfl)
theorem dX6_lists_6 : decode cX6_lists 6 = .ok (.istore_n 1, 1) := dk_60 (dk_at dksX6_lists_0 6 rfl rfl)
theorem dX6_lists_7 : decode cX6_lists 7 = .ok (.aload_n 0, 1) := dk_42 (dk_at dksX6_lists_0 7 rfl rfl)
theorem dX6_lists_8 : decode cX6_lists 8 = .ok (.getfield 7, 3) := dk_180 0 7 (dk_at dksX6_lists_0 8 rfl rfl)
theorem dX6_lists_11 : decode cX6_lists 11 = .ok (.iconst 1, 1) := dk_4 (dk_at dksX6_lists_0 11 rfl rfl)
theorem dX6_lists_12 : decode cX6_lists 12 = .ok (.iaload, 1) := dk_46 (dk_at dksX6_lists_0 12 rfl rfl)
theorem dX6_lists_13 : decode cX6_lists 13 = .ok (.iconst 1, 1) := dk_4 (dk_at dksX6_lists_0 13 rfl rfl)
theorem dX6_lists_14 : decode cX6_lists 14 = .ok (.iadd, 1) := dk_96 (dk_at dksX6_lists_0 14 rfl rfl)
theorem dX6_lists_15 : decode cX6_lists 15 = .ok (.istore_n 2, 1) := dk_61 (dk_at dksX6_lists_0 15 rfl rfl)
theorem dX6_lists_16 : decode cX6_lists 16 = .ok (.aload_n 0, 1) := dk_42 (dk_at dksX6_lists_0 16 rfl rfl)
theorem dX6_lists_17 : decode cX6_lists 17 = .ok (.getfield 87, 3) := dk_180 0 87 (dk_at dksX6_lists_0 17 rfl rfl)
theorem dX6_lists_20 : decode cX6_lists 20 = .ok (.iload_n 1, 1) := dk_27 (dk_at dksX6_lists_0 20 rfl rfl)
theorem dX6_lists_21 : decode cX6_lists 21 = .ok (.if_icmp .ne 17, 3) := dk_160 0 17 (dk_at dksX6_lists_0 21 rfl rfl)
theorem dX6_lists_24 : decode cX6_lists 24 = .ok (.aload_n 0, 1) := dk_42 (dk_at dksX6_lists_1 0 rfl rfl)
theorem dX6_lists_25 : decode cX6_lists 25 = .ok (.getfield 90, 3) := dk_180 0 90 (dk_at dksX6_lists_1 1 rfl rfl)
theorem dX6_lists_28 : decode cX6_lists 28 = .ok (.aload_n 0, 1) := dk_42 (dk_at dksX6_lists_1 4 rfl rfl)
theorem dX6_lists_29 : decode cX6_lists 29 = .ok (.getfield 7, 3) := dk_180 0 7 (dk_at dksX6_lists_1 5 rfl rfl)
theorem dX6_lists_32 : decode cX6_lists 32 = .ok (.iconst 1, 1) := dk_4 (dk_at dksX6_lists_1 8 rfl rfl)
theorem dX6_lists_33 : decode cX6_lists 33 = .ok (.iaload, 1) := dk_46 (dk_at dksX6_lists_1 9 rfl rfl)
theorem dX6_lists_34 : decode cX6_lists 34 = .ok (.if_icmp .ne 4, 3) := dk_160 0 4 (dk_at dksX6_lists_1 10 rfl rfl)
theorem dX6_lists_37 : decode cX6_lists 37 = .ok (.return_, 1) := dk_177 (dk_at dksX6_lists_1 13 rfl rfl)
theorem dX6_lists_38 : decode cX6_lists 38 = .ok (.aload_n 0, 1) := dk_42 (dk_at dksX6_lists_1 14 rfl rfl)
theorem dX6_lists_39 : decode cX6_lists 39 = .ok (.iload_n 1, 1) := dk_27 (dk_at dksX6_lists_1 15 rfl rfl)
theorem dX6_lists_40 : decode cX6_lists 40 = .ok (.putfield 87, 3) := dk_181 0 87 (dk_at dksX6_lists_1 16 rfl rfl)
theorem dX6_lists_43 : decode cX6_lists 43 = .ok (.aload_n 0, 1) := dk_42 (dk_at dksX6_lists_1 19 rfl rfl)
theorem dX6_lists_44 : decode cX6_lists 44 = .ok (.aload_n 0, 1) := dk_42 (dk_at dksX6_lists_1 20 rfl rfl)
theorem dX6_lists_45 : decode cX6_lists 45 = .ok (.getfield 7, 3) := dk_180 0 7 (dk_at dksX6_lists_1 21 rfl rfl)
theorem dX6_lists_48 : decode cX6_lists 48 = .ok (.iconst 1, 1) := dk_4 (dk_at dksX6_lists_2 0 rfl rfl)
theorem dX6_lists_49 : decode cX6_lists 49 = .ok (.iaload, 1) := dk_46 (dk_at dksX6_lists_2 1 rfl rfl)
theorem dX6_lists_50 : decode cX6_lists 50 = .ok (.putfield 90, 3) := dk_181 0 90 (dk_at dksX6_lists_2 2 rfl rfl)
theorem dX6_lists_53 : decode cX6_lists 53 = .ok (.aload_n 0, 1) := dk_42 (dk_at dksX6_lists_2 5 rfl rfl)
theorem dX6_lists_54 : decode cX6_lists 54 = .ok (.iconst 0, 1) := dk_3 (dk_at dksX6_lists_2 6 rfl rfl)
theorem dX6_lists_55 : decode cX6_lists 55 = .ok (.putfield 93, 3) := dk_181 0 93 (dk_at dksX6_lists_2 7 rfl rfl)
theorem dX6_lists_58 : decode cX6_lists 58 = .ok (.iconst 1, 1) := dk_4 (dk_at dksX6_lists_2 10 rfl rfl)
theorem dX6_lists_59 : decode cX6_lists 59 = .ok (.istore_n 3, 1) := dk_62 (dk_at dksX6_lists_2 11 rfl rfl)
theorem dX6_lists_60 : decode cX6_lists 60 = .ok (.iconst 0, 1) := dk_3 (dk_at dksX6_lists_2 12 rfl rfl)
theorem dX6_lists_61 : decode cX6_lists 61 = .ok (.istore 4, 2) := dk_54 4 (dk_at dksX6_lists_2 13 rfl rfl)
theorem dX6_lists_63 : decode cX6_lists 63 = .ok (.iload 4, 2) := dk_21 4 (dk_at dksX6_lists_2 15 rfl rfl)
theorem dX6_lists_65 : decode cX6_lists 65 = .ok (.iload_n 1, 1) := dk_27 (dk_at dksX6_lists_2 17 rfl rfl)
theorem dX6_lists_66 : decode cX6_lists 66 = .ok (.if_icmp .ge 13, 3) := dk_162 0 13 (dk_at dksX6_lists_2 18 rfl rfl)
theorem dX6_lists_69 : decode cX6_lists 69 = .ok (.iload_n 3, 1) := dk_29 (dk_at dksX6_lists_2 21 rfl rfl)
theorem dX6_lists_70 : decode cX6_lists 70 = .ok (.iload_n 2, 1) := dk_28 (dk_at dksX6_lists_2 22 rfl rfl)
theorem dX6_lists_71 : decode cX6_lists 71 = .ok (.imul, 1) := dk_104 (dk_at dksX6_lists_2 23 rfl rfl)
theorem dX6_lists_72 : decode cX6_lists 72 = .ok (.istore_n 3, 1) := dk_62 (dk_at dksX6_lists_3 0 rfl rfl)
theorem dX6_lists_73 : decode cX6_lists 73 = .ok (.iinc 4 1, 3) := dk_132 4 1 (dk_at dksX6_lists_3 1 rfl rfl)
theorem dX6_lists_76 : decode cX6_lists 76 = .ok (.goto (-13), 3) := dk_167 255 243 (dk_at dksX6_lists_3 4 rfl rfl)
theorem dX6_lists_79 : decode cX6_lists 79 = .ok (.iconst 0, 1) := dk_3 (dk_at dksX6_lists_3 7 rfl rfl)
theorem dX6_lists_80 : decode cX6_lists 80 = .ok (.istore 4, 2) := dk_54 4 (dk_at dksX6_lists_3 8 rfl rfl)
theorem dX6_lists_82 : decode cX6_lists 82 = .ok (.iload 4, 2) := dk_21 4 (dk_at dksX6_lists_3 10 rfl rfl)
theorem dX6_lists_84 : decode cX6_lists 84 = .ok (.iload_n 3, 1) := dk_29 (dk_at dksX6_lists_3 12 rfl rfl)
theorem dX6_lists_85 : decode cX6_lists 85 = .ok (.if_icmp .ge 16, 3) := dk_162 0 16 (dk_at dksX6_lists_3 13 rfl rfl)
theorem dX6_lists_88 : decode cX6_lists 88 = .ok (.aload_n 0, 1) := dk_42 (dk_at dksX6_lists_3 16 rfl rfl)
theorem dX6_lists_89 : decode cX6_lists 89 = .ok (.iload 4, 2) := dk_21 4 (dk_at dksX6_lists_3 17 rfl rfl)
theorem dX6_lists_91 : decode cX6_lists 91 = .ok (.iload_n 2, 1) := dk_28 (dk_at dksX6_lists_3 19 rfl rfl)
theorem dX6_lists_92 : decode cX6_lists 92 = .ok (.invokevirtual 96, 3) := dk_182 0 96 (dk_at dksX6_lists_3 20 rfl rfl)
theorem dX6_lists_95 : decode cX6_lists 95 = .ok (.iinc 4 1, 3) := dk_132 4 1 (dk_at dksX6_lists_4 0 rfl rfl)
theorem dX6_lists_98 : decode cX6_lists 98 = .ok (.goto (-16), 3) := dk_167 255 240 (dk_at dksX6_lists_4 3 rfl rfl)
theorem dX6_lists_101 : decode cX6_lists 101 = .ok (.return_, 1) := dk_177 (dk_at dksX6_lists_4 6 rfl rfl)
abbrev cX6_lays : ByteArray := prog_10_method_29_code
def yX6_lays : MethodName := ⟨RX6, "lays", "(II)V"⟩
def dkwX6_lays_14 : List UInt8 := [181, 0, 93, 177]
abbrev dktX6_lays_14 : List UInt8 := dkwX6_lays_14 ++ []
def dkwX6_lays_13 : List UInt8 := [180, 0, 93, 104, 6, 96, 46, 79, 132, 7, 1, 132, 8, 1, 167, 255, 68, 42, 89, 180, 0, 93, 4, 96]
abbrev dktX6_lays_13 : List UInt8 := dkwX6_lays_13 ++ dktX6_lays_14
def dkwX6_lays_12 : List UInt8 := [96, 21, 7, 42, 180, 0, 90, 5, 100, 160, 0, 8, 21, 9, 167, 0, 16, 42, 180, 0, 24, 7, 42]
abbrev dktX6_lays_12 : List UInt8 := dkwX6_lays_12 ++ dktX6_lays_13
def dkwX6_lays_11 : List UInt8 := [180, 0, 24, 7, 42, 180, 0, 93, 104, 5, 96, 46, 79, 42, 180, 0, 24, 7, 42, 180, 0, 93, 104, 6]
abbrev dktX6_lays_11 : List UInt8 := dkwX6_lays_11 ++ dktX6_lays_12
def dkwX6_lays_10 : List UInt8 := [180, 0, 93, 104, 5, 96, 21, 7, 42, 180, 0, 90, 4, 100, 160, 0, 8, 21, 9, 167, 0, 16, 42]
abbrev dktX6_lays_10 : List UInt8 := dkwX6_lays_10 ++ dktX6_lays_11
def dkwX6_lays_9 : List UInt8 := [167, 0, 16, 42, 180, 0, 24, 7, 42, 180, 0, 93, 104, 4, 96, 46, 79, 42, 180, 0, 24, 7, 42]
abbrev dktX6_lays_9 : List UInt8 := dkwX6_lays_9 ++ dktX6_lays_10
def dkwX6_lays_8 : List UInt8 := [46, 79, 42, 180, 0, 24, 7, 42, 180, 0, 93, 104, 4, 96, 21, 7, 4, 160, 0, 8, 21, 9]
abbrev dktX6_lays_8 : List UInt8 := dkwX6_lays_8 ++ dktX6_lays_9
def dkwX6_lays_7 : List UInt8 := [180, 0, 93, 104, 21, 7, 154, 0, 8, 21, 9, 167, 0, 14, 42, 180, 0, 24, 7, 42, 180, 0, 93, 104]
abbrev dktX6_lays_7 : List UInt8 := dkwX6_lays_7 ++ dktX6_lays_8
def dkwX6_lays_6 : List UInt8 := [29, 21, 8, 96, 46, 54, 9, 21, 9, 42, 180, 0, 90, 162, 0, 159, 42, 180, 0, 24, 7, 42]
abbrev dktX6_lays_6 : List UInt8 := dkwX6_lays_6 ++ dktX6_lays_7
def dkwX6_lays_5 : List UInt8 := [100, 159, 0, 4, 177, 3, 54, 7, 3, 54, 8, 21, 8, 42, 180, 0, 87, 162, 0, 185, 42, 180, 0, 21]
abbrev dktX6_lays_5 : List UInt8 := dkwX6_lays_5 ++ dktX6_lays_6
def dkwX6_lays_4 : List UInt8 := [180, 0, 90, 160, 0, 25, 21, 4, 4, 42, 180, 0, 90, 120, 4, 100, 126, 4, 42, 180, 0, 90, 120, 4]
abbrev dktX6_lays_4 : List UInt8 := dkwX6_lays_4 ++ dktX6_lays_5
def dkwX6_lays_3 : List UInt8 := [162, 0, 7, 4, 167, 0, 4, 3, 184, 0, 80, 96, 54, 5, 132, 7, 1, 167, 255, 190, 21, 5, 42]
abbrev dktX6_lays_3 : List UInt8 := dkwX6_lays_3 ++ dktX6_lays_4
def dkwX6_lays_2 : List UInt8 := [21, 7, 96, 21, 8, 79, 21, 4, 4, 21, 8, 120, 128, 54, 4, 21, 5, 21, 8, 42, 180, 0, 90]
abbrev dktX6_lays_2 : List UInt8 := dkwX6_lays_2 ++ dktX6_lays_3
def dkwX6_lays_1 : List UInt8 := [180, 0, 87, 162, 0, 63, 21, 6, 28, 112, 54, 8, 21, 6, 28, 108, 54, 6, 42, 180, 0, 21, 29]
abbrev dktX6_lays_1 : List UInt8 := dkwX6_lays_1 ++ dktX6_lays_2
def dkwX6_lays_0 : List UInt8 := [8, 42, 180, 0, 93, 104, 62, 3, 54, 4, 3, 54, 5, 27, 54, 6, 3, 54, 7, 21, 7, 42]
abbrev dktX6_lays_0 : List UInt8 := dkwX6_lays_0 ++ dktX6_lays_1
theorem dksX6_lays_0 : cX6_lays.data.toList.drop 0 = dktX6_lays_0 := by decide +kernel
theorem dksX6_lays_1 : cX6_lays.data.toList.drop 22 = dktX6_lays_1 := dk_seg dksX6_lays_0 22 rfl rfl
theorem dksX6_lays_2 : cX6_lays.data.toList.drop 45 = dktX6_lays_2 := dk_seg dksX6_lays_1 23 rfl rfl
theorem dksX6_lays_3 : cX6_lays.data.toList.drop 68 = dktX6_lays_3 := dk_seg dksX6_lays_2 23 rfl rfl
theorem dksX6_lays_4 : cX6_lays.data.toList.drop 91 = dktX6_lays_4 := dk_seg dksX6_lays_3 23 rfl rfl
theorem dksX6_lays_5 : cX6_lays.data.toList.drop 115 = dktX6_lays_5 := dk_seg dksX6_lays_4 24 rfl rfl
theorem dksX6_lays_6 : cX6_lays.data.toList.drop 139 = dktX6_lays_6 := dk_seg dksX6_lays_5 24 rfl rfl
theorem dksX6_lays_7 : cX6_lays.data.toList.drop 161 = dktX6_lays_7 := dk_seg dksX6_lays_6 22 rfl rfl
theorem dksX6_lays_8 : cX6_lays.data.toList.drop 185 = dktX6_lays_8 := dk_seg dksX6_lays_7 24 rfl rfl
theorem dksX6_lays_9 : cX6_lays.data.toList.drop 207 = dktX6_lays_9 := dk_seg dksX6_lays_8 22 rfl rfl
theorem dksX6_lays_10 : cX6_lays.data.toList.drop 230 = dktX6_lays_10 := dk_seg dksX6_lays_9 23 rfl rfl
theorem dksX6_lays_11 : cX6_lays.data.toList.drop 253 = dktX6_lays_11 := dk_seg dksX6_lays_10 23 rfl rfl
theorem dksX6_lays_12 : cX6_lays.data.toList.drop 277 = dktX6_lays_12 := dk_seg dksX6_lays_11 24 rfl rfl
theorem dksX6_lays_13 : cX6_lays.data.toList.drop 300 = dktX6_lays_13 := dk_seg dksX6_lays_12 23 rfl rfl
theorem dksX6_lays_14 : cX6_lays.data.toList.drop 324 = dktX6_lays_14 := dk_seg dksX6_lays_13 24 rfl rfl
theorem dX6_lays_0 : decode cX6_lays 0 = .ok (.iconst 5, 1) := dk_8 (dk_at dksX6_lays_0 0 rfl rfl)
theorem dX6_lays_1 : decode cX6_lays 1 = .ok (.aload_n 0, 1) := dk_42 (dk_at dksX6_lays_0 1 rfl rfl)
theorem dX6_lays_2 : decode cX6_lays 2 = .ok (.getfield 93, 3) := dk_180 0 93 (dk_at dksX6_lays_0 2 rfl rfl)
theorem dX6_lays_5 : decode cX6_lays 5 = .ok (.imul, 1) := dk_104 (dk_at dksX6_lays_0 5 rfl rfl)
theorem dX6_lays_6 : decode cX6_lays 6 = .ok (.istore_n 3, 1) := dk_62 (dk_at dksX6_lays_0 6 rfl rfl)
theorem dX6_lays_7 : decode cX6_lays 7 = .ok (.iconst 0, 1) := dk_3 (dk_at dksX6_lays_0 7 rfl rfl)
theorem dX6_lays_8 : decode cX6_lays 8 = .ok (.istore 4, 2) := dk_54 4 (dk_at dksX6_lays_0 8 rfl rfl)
theorem dX6_lays_10 : decode cX6_lays 10 = .ok (.iconst 0, 1) := dk_3 (dk_at dksX6_lays_0 10 rfl rfl)
theorem dX6_lays_11 : decode cX6_lays 11 = .ok (.istore 5, 2) := dk_54 5 (dk_at dksX6_lays_0 11 rfl rfl)
theorem dX6_lays_13 : decode cX6_lays 13 = .ok (.iload_n 1, 1) := dk_27 (dk_at dksX6_lays_0 13 rfl rfl)
theorem dX6_lays_14 : decode cX6_lays 14 = .ok (.istore 6, 2) := dk_54 6 (dk_at dksX6_lays_0 14 rfl rfl)
theorem dX6_lays_16 : decode cX6_lays 16 = .ok (.iconst 0, 1) := dk_3 (dk_at dksX6_lays_0 16 rfl rfl)
theorem dX6_lays_17 : decode cX6_lays 17 = .ok (.istore 7, 2) := dk_54 7 (dk_at dksX6_lays_0 17 rfl rfl)
theorem dX6_lays_19 : decode cX6_lays 19 = .ok (.iload 7, 2) := dk_21 7 (dk_at dksX6_lays_0 19 rfl rfl)
theorem dX6_lays_21 : decode cX6_lays 21 = .ok (.aload_n 0, 1) := dk_42 (dk_at dksX6_lays_0 21 rfl rfl)
theorem dX6_lays_22 : decode cX6_lays 22 = .ok (.getfield 87, 3) := dk_180 0 87 (dk_at dksX6_lays_1 0 rfl rfl)
theorem dX6_lays_25 : decode cX6_lays 25 = .ok (.if_icmp .ge 63, 3) := dk_162 0 63 (dk_at dksX6_lays_1 3 rfl rfl)
theorem dX6_lays_28 : decode cX6_lays 28 = .ok (.iload 6, 2) := dk_21 6 (dk_at dksX6_lays_1 6 rfl rfl)
theorem dX6_lays_30 : decode cX6_lays 30 = .ok (.iload_n 2, 1) := dk_28 (dk_at dksX6_lays_1 8 rfl rfl)
theorem dX6_lays_31 : decode cX6_lays 31 = .ok (.irem, 1) := dk_112 (dk_at dksX6_lays_1 9 rfl rfl)
theorem dX6_lays_32 : decode cX6_lays 32 = .ok (.istore 8, 2) := dk_54 8 (dk_at dksX6_lays_1 10 rfl rfl)
theorem dX6_lays_34 : decode cX6_lays 34 = .ok (.iload 6, 2) := dk_21 6 (dk_at dksX6_lays_1 12 rfl rfl)
theorem dX6_lays_36 : decode cX6_lays 36 = .ok (.iload_n 2, 1) := dk_28 (dk_at dksX6_lays_1 14 rfl rfl)
theorem dX6_lays_37 : decode cX6_lays 37 = .ok (.idiv, 1) := dk_108 (dk_at dksX6_lays_1 15 rfl rfl)
theorem dX6_lays_38 : decode cX6_lays 38 = .ok (.istore 6, 2) := dk_54 6 (dk_at dksX6_lays_1 16 rfl rfl)
theorem dX6_lays_40 : decode cX6_lays 40 = .ok (.aload_n 0, 1) := dk_42 (dk_at dksX6_lays_1 18 rfl rfl)
theorem dX6_lays_41 : decode cX6_lays 41 = .ok (.getfield 21, 3) := dk_180 0 21 (dk_at dksX6_lays_1 19 rfl rfl)
theorem dX6_lays_44 : decode cX6_lays 44 = .ok (.iload_n 3, 1) := dk_29 (dk_at dksX6_lays_1 22 rfl rfl)
theorem dX6_lays_45 : decode cX6_lays 45 = .ok (.iload 7, 2) := dk_21 7 (dk_at dksX6_lays_2 0 rfl rfl)
theorem dX6_lays_47 : decode cX6_lays 47 = .ok (.iadd, 1) := dk_96 (dk_at dksX6_lays_2 2 rfl rfl)
theorem dX6_lays_48 : decode cX6_lays 48 = .ok (.iload 8, 2) := dk_21 8 (dk_at dksX6_lays_2 3 rfl rfl)
theorem dX6_lays_50 : decode cX6_lays 50 = .ok (.iastore, 1) := dk_79 (dk_at dksX6_lays_2 5 rfl rfl)
theorem dX6_lays_51 : decode cX6_lays 51 = .ok (.iload 4, 2) := dk_21 4 (dk_at dksX6_lays_2 6 rfl rfl)
theorem dX6_lays_53 : decode cX6_lays 53 = .ok (.iconst 1, 1) := dk_4 (dk_at dksX6_lays_2 8 rfl rfl)
theorem dX6_lays_54 : decode cX6_lays 54 = .ok (.iload 8, 2) := dk_21 8 (dk_at dksX6_lays_2 9 rfl rfl)
theorem dX6_lays_56 : decode cX6_lays 56 = .ok (.ishl, 1) := dk_120 (dk_at dksX6_lays_2 11 rfl rfl)
theorem dX6_lays_57 : decode cX6_lays 57 = .ok (.ior, 1) := dk_128 (dk_at dksX6_lays_2 12 rfl rfl)
theorem dX6_lays_58 : decode cX6_lays 58 = .ok (.istore 4, 2) := dk_54 4 (dk_at dksX6_lays_2 13 rfl rfl)
theorem dX6_lays_60 : decode cX6_lays 60 = .ok (.iload 5, 2) := dk_21 5 (dk_at dksX6_lays_2 15 rfl rfl)
theorem dX6_lays_62 : decode cX6_lays 62 = .ok (.iload 8, 2) := dk_21 8 (dk_at dksX6_lays_2 17 rfl rfl)
theorem dX6_lays_64 : decode cX6_lays 64 = .ok (.aload_n 0, 1) := dk_42 (dk_at dksX6_lays_2 19 rfl rfl)
theorem dX6_lays_65 : decode cX6_lays 65 = .ok (.getfield 90, 3) := dk_180 0 90 (dk_at dksX6_lays_2 20 rfl rfl)
theorem dX6_lays_68 : decode cX6_lays 68 = .ok (.if_icmp .ge 7, 3) := dk_162 0 7 (dk_at dksX6_lays_3 0 rfl rfl)
theorem dX6_lays_71 : decode cX6_lays 71 = .ok (.iconst 1, 1) := dk_4 (dk_at dksX6_lays_3 3 rfl rfl)
theorem dX6_lays_72 : decode cX6_lays 72 = .ok (.goto 4, 3) := dk_167 0 4 (dk_at dksX6_lays_3 4 rfl rfl)
theorem dX6_lays_75 : decode cX6_lays 75 = .ok (.iconst 0, 1) := dk_3 (dk_at dksX6_lays_3 7 rfl rfl)
theorem dX6_lays_76 : decode cX6_lays 76 = .ok (.invokestatic 80, 3) := dk_184 0 80 (dk_at dksX6_lays_3 8 rfl rfl)
theorem dX6_lays_79 : decode cX6_lays 79 = .ok (.iadd, 1) := dk_96 (dk_at dksX6_lays_3 11 rfl rfl)
theorem dX6_lays_80 : decode cX6_lays 80 = .ok (.istore 5, 2) := dk_54 5 (dk_at dksX6_lays_3 12 rfl rfl)
theorem dX6_lays_82 : decode cX6_lays 82 = .ok (.iinc 7 1, 3) := dk_132 7 1 (dk_at dksX6_lays_3 14 rfl rfl)
theorem dX6_lays_85 : decode cX6_lays 85 = .ok (.goto (-66), 3) := dk_167 255 190 (dk_at dksX6_lays_3 17 rfl rfl)
theorem dX6_lays_88 : decode cX6_lays 88 = .ok (.iload 5, 2) := dk_21 5 (dk_at dksX6_lays_3 20 rfl rfl)
theorem dX6_lays_90 : decode cX6_lays 90 = .ok (.aload_n 0, 1) := dk_42 (dk_at dksX6_lays_3 22 rfl rfl)
theorem dX6_lays_91 : decode cX6_lays 91 = .ok (.getfield 90, 3) := dk_180 0 90 (dk_at dksX6_lays_4 0 rfl rfl)
theorem dX6_lays_94 : decode cX6_lays 94 = .ok (.if_icmp .ne 25, 3) := dk_160 0 25 (dk_at dksX6_lays_4 3 rfl rfl)
theorem dX6_lays_97 : decode cX6_lays 97 = .ok (.iload 4, 2) := dk_21 4 (dk_at dksX6_lays_4 6 rfl rfl)
theorem dX6_lays_99 : decode cX6_lays 99 = .ok (.iconst 1, 1) := dk_4 (dk_at dksX6_lays_4 8 rfl rfl)
theorem dX6_lays_100 : decode cX6_lays 100 = .ok (.aload_n 0, 1) := dk_42 (dk_at dksX6_lays_4 9 rfl rfl)
theorem dX6_lays_101 : decode cX6_lays 101 = .ok (.getfield 90, 3) := dk_180 0 90 (dk_at dksX6_lays_4 10 rfl rfl)
theorem dX6_lays_104 : decode cX6_lays 104 = .ok (.ishl, 1) := dk_120 (dk_at dksX6_lays_4 13 rfl rfl)
theorem dX6_lays_105 : decode cX6_lays 105 = .ok (.iconst 1, 1) := dk_4 (dk_at dksX6_lays_4 14 rfl rfl)
theorem dX6_lays_106 : decode cX6_lays 106 = .ok (.isub, 1) := dk_100 (dk_at dksX6_lays_4 15 rfl rfl)
theorem dX6_lays_107 : decode cX6_lays 107 = .ok (.iand, 1) := dk_126 (dk_at dksX6_lays_4 16 rfl rfl)
theorem dX6_lays_108 : decode cX6_lays 108 = .ok (.iconst 1, 1) := dk_4 (dk_at dksX6_lays_4 17 rfl rfl)
theorem dX6_lays_109 : decode cX6_lays 109 = .ok (.aload_n 0, 1) := dk_42 (dk_at dksX6_lays_4 18 rfl rfl)
theorem dX6_lays_110 : decode cX6_lays 110 = .ok (.getfield 90, 3) := dk_180 0 90 (dk_at dksX6_lays_4 19 rfl rfl)
theorem dX6_lays_113 : decode cX6_lays 113 = .ok (.ishl, 1) := dk_120 (dk_at dksX6_lays_4 22 rfl rfl)
theorem dX6_lays_114 : decode cX6_lays 114 = .ok (.iconst 1, 1) := dk_4 (dk_at dksX6_lays_4 23 rfl rfl)
theorem dX6_lays_115 : decode cX6_lays 115 = .ok (.isub, 1) := dk_100 (dk_at dksX6_lays_5 0 rfl rfl)
theorem dX6_lays_116 : decode cX6_lays 116 = .ok (.if_icmp .eq 4, 3) := dk_159 0 4 (dk_at dksX6_lays_5 1 rfl rfl)
theorem dX6_lays_119 : decode cX6_lays 119 = .ok (.return_, 1) := dk_177 (dk_at dksX6_lays_5 4 rfl rfl)
theorem dX6_lays_120 : decode cX6_lays 120 = .ok (.iconst 0, 1) := dk_3 (dk_at dksX6_lays_5 5 rfl rfl)
theorem dX6_lays_121 : decode cX6_lays 121 = .ok (.istore 7, 2) := dk_54 7 (dk_at dksX6_lays_5 6 rfl rfl)
theorem dX6_lays_123 : decode cX6_lays 123 = .ok (.iconst 0, 1) := dk_3 (dk_at dksX6_lays_5 8 rfl rfl)
theorem dX6_lays_124 : decode cX6_lays 124 = .ok (.istore 8, 2) := dk_54 8 (dk_at dksX6_lays_5 9 rfl rfl)
theorem dX6_lays_126 : decode cX6_lays 126 = .ok (.iload 8, 2) := dk_21 8 (dk_at dksX6_lays_5 11 rfl rfl)
theorem dX6_lays_128 : decode cX6_lays 128 = .ok (.aload_n 0, 1) := dk_42 (dk_at dksX6_lays_5 13 rfl rfl)
theorem dX6_lays_129 : decode cX6_lays 129 = .ok (.getfield 87, 3) := dk_180 0 87 (dk_at dksX6_lays_5 14 rfl rfl)
theorem dX6_lays_132 : decode cX6_lays 132 = .ok (.if_icmp .ge 185, 3) := dk_162 0 185 (dk_at dksX6_lays_5 17 rfl rfl)
theorem dX6_lays_135 : decode cX6_lays 135 = .ok (.aload_n 0, 1) := dk_42 (dk_at dksX6_lays_5 20 rfl rfl)
theorem dX6_lays_136 : decode cX6_lays 136 = .ok (.getfield 21, 3) := dk_180 0 21 (dk_at dksX6_lays_5 21 rfl rfl)
theorem dX6_lays_139 : decode cX6_lays 139 = .ok (.iload_n 3, 1) := dk_29 (dk_at dksX6_lays_6 0 rfl rfl)
theorem dX6_lays_140 : decode cX6_lays 140 = .ok (.iload 8, 2) := dk_21 8 (dk_at dksX6_lays_6 1 rfl rfl)
theorem dX6_lays_142 : decode cX6_lays 142 = .ok (.iadd, 1) := dk_96 (dk_at dksX6_lays_6 3 rfl rfl)
theorem dX6_lays_143 : decode cX6_lays 143 = .ok (.iaload, 1) := dk_46 (dk_at dksX6_lays_6 4 rfl rfl)
theorem dX6_lays_144 : decode cX6_lays 144 = .ok (.istore 9, 2) := dk_54 9 (dk_at dksX6_lays_6 5 rfl rfl)
theorem dX6_lays_146 : decode cX6_lays 146 = .ok (.iload 9, 2) := dk_21 9 (dk_at dksX6_lays_6 7 rfl rfl)
theorem dX6_lays_148 : decode cX6_lays 148 = .ok (.aload_n 0, 1) := dk_42 (dk_at dksX6_lays_6 9 rfl rfl)
theorem dX6_lays_149 : decode cX6_lays 149 = .ok (.getfield 90, 3) := dk_180 0 90 (dk_at dksX6_lays_6 10 rfl rfl)
theorem dX6_lays_152 : decode cX6_lays 152 = .ok (.if_icmp .ge 159, 3) := dk_162 0 159 (dk_at dksX6_lays_6 13 rfl rfl)
theorem dX6_lays_155 : decode cX6_lays 155 = .ok (.aload_n 0, 1) := dk_42 (dk_at dksX6_lays_6 16 rfl rfl)
theorem dX6_lays_156 : decode cX6_lays 156 = .ok (.getfield 24, 3) := dk_180 0 24 (dk_at dksX6_lays_6 17 rfl rfl)
theorem dX6_lays_159 : decode cX6_lays 159 = .ok (.iconst 4, 1) := dk_7 (dk_at dksX6_lays_6 20 rfl rfl)
theorem dX6_lays_160 : decode cX6_lays 160 = .ok (.aload_n 0, 1) := dk_42 (dk_at dksX6_lays_6 21 rfl rfl)
theorem dX6_lays_161 : decode cX6_lays 161 = .ok (.getfield 93, 3) := dk_180 0 93 (dk_at dksX6_lays_7 0 rfl rfl)
theorem dX6_lays_164 : decode cX6_lays 164 = .ok (.imul, 1) := dk_104 (dk_at dksX6_lays_7 3 rfl rfl)
theorem dX6_lays_165 : decode cX6_lays 165 = .ok (.iload 7, 2) := dk_21 7 (dk_at dksX6_lays_7 4 rfl rfl)
theorem dX6_lays_167 : decode cX6_lays 167 = .ok (.ifCond .ne 8, 3) := dk_154 0 8 (dk_at dksX6_lays_7 6 rfl rfl)
theorem dX6_lays_170 : decode cX6_lays 170 = .ok (.iload 9, 2) := dk_21 9 (dk_at dksX6_lays_7 9 rfl rfl)
theorem dX6_lays_172 : decode cX6_lays 172 = .ok (.goto 14, 3) := dk_167 0 14 (dk_at dksX6_lays_7 11 rfl rfl)
theorem dX6_lays_175 : decode cX6_lays 175 = .ok (.aload_n 0, 1) := dk_42 (dk_at dksX6_lays_7 14 rfl rfl)
theorem dX6_lays_176 : decode cX6_lays 176 = .ok (.getfield 24, 3) := dk_180 0 24 (dk_at dksX6_lays_7 15 rfl rfl)
theorem dX6_lays_179 : decode cX6_lays 179 = .ok (.iconst 4, 1) := dk_7 (dk_at dksX6_lays_7 18 rfl rfl)
theorem dX6_lays_180 : decode cX6_lays 180 = .ok (.aload_n 0, 1) := dk_42 (dk_at dksX6_lays_7 19 rfl rfl)
theorem dX6_lays_181 : decode cX6_lays 181 = .ok (.getfield 93, 3) := dk_180 0 93 (dk_at dksX6_lays_7 20 rfl rfl)
theorem dX6_lays_184 : decode cX6_lays 184 = .ok (.imul, 1) := dk_104 (dk_at dksX6_lays_7 23 rfl rfl)
theorem dX6_lays_185 : decode cX6_lays 185 = .ok (.iaload, 1) := dk_46 (dk_at dksX6_lays_8 0 rfl rfl)
theorem dX6_lays_186 : decode cX6_lays 186 = .ok (.iastore, 1) := dk_79 (dk_at dksX6_lays_8 1 rfl rfl)
theorem dX6_lays_187 : decode cX6_lays 187 = .ok (.aload_n 0, 1) := dk_42 (dk_at dksX6_lays_8 2 rfl rfl)
theorem dX6_lays_188 : decode cX6_lays 188 = .ok (.getfield 24, 3) := dk_180 0 24 (dk_at dksX6_lays_8 3 rfl rfl)
theorem dX6_lays_191 : decode cX6_lays 191 = .ok (.iconst 4, 1) := dk_7 (dk_at dksX6_lays_8 6 rfl rfl)
theorem dX6_lays_192 : decode cX6_lays 192 = .ok (.aload_n 0, 1) := dk_42 (dk_at dksX6_lays_8 7 rfl rfl)
theorem dX6_lays_193 : decode cX6_lays 193 = .ok (.getfield 93, 3) := dk_180 0 93 (dk_at dksX6_lays_8 8 rfl rfl)
theorem dX6_lays_196 : decode cX6_lays 196 = .ok (.imul, 1) := dk_104 (dk_at dksX6_lays_8 11 rfl rfl)
theorem dX6_lays_197 : decode cX6_lays 197 = .ok (.iconst 1, 1) := dk_4 (dk_at dksX6_lays_8 12 rfl rfl)
theorem dX6_lays_198 : decode cX6_lays 198 = .ok (.iadd, 1) := dk_96 (dk_at dksX6_lays_8 13 rfl rfl)
theorem dX6_lays_199 : decode cX6_lays 199 = .ok (.iload 7, 2) := dk_21 7 (dk_at dksX6_lays_8 14 rfl rfl)
theorem dX6_lays_201 : decode cX6_lays 201 = .ok (.iconst 1, 1) := dk_4 (dk_at dksX6_lays_8 16 rfl rfl)
theorem dX6_lays_202 : decode cX6_lays 202 = .ok (.if_icmp .ne 8, 3) := dk_160 0 8 (dk_at dksX6_lays_8 17 rfl rfl)
theorem dX6_lays_205 : decode cX6_lays 205 = .ok (.iload 9, 2) := dk_21 9 (dk_at dksX6_lays_8 20 rfl rfl)
theorem dX6_lays_207 : decode cX6_lays 207 = .ok (.goto 16, 3) := dk_167 0 16 (dk_at dksX6_lays_9 0 rfl rfl)
theorem dX6_lays_210 : decode cX6_lays 210 = .ok (.aload_n 0, 1) := dk_42 (dk_at dksX6_lays_9 3 rfl rfl)
theorem dX6_lays_211 : decode cX6_lays 211 = .ok (.getfield 24, 3) := dk_180 0 24 (dk_at dksX6_lays_9 4 rfl rfl)
theorem dX6_lays_214 : decode cX6_lays 214 = .ok (.iconst 4, 1) := dk_7 (dk_at dksX6_lays_9 7 rfl rfl)
theorem dX6_lays_215 : decode cX6_lays 215 = .ok (.aload_n 0, 1) := dk_42 (dk_at dksX6_lays_9 8 rfl rfl)
theorem dX6_lays_216 : decode cX6_lays 216 = .ok (.getfield 93, 3) := dk_180 0 93 (dk_at dksX6_lays_9 9 rfl rfl)
theorem dX6_lays_219 : decode cX6_lays 219 = .ok (.imul, 1) := dk_104 (dk_at dksX6_lays_9 12 rfl rfl)
theorem dX6_lays_220 : decode cX6_lays 220 = .ok (.iconst 1, 1) := dk_4 (dk_at dksX6_lays_9 13 rfl rfl)
theorem dX6_lays_221 : decode cX6_lays 221 = .ok (.iadd, 1) := dk_96 (dk_at dksX6_lays_9 14 rfl rfl)
theorem dX6_lays_222 : decode cX6_lays 222 = .ok (.iaload, 1) := dk_46 (dk_at dksX6_lays_9 15 rfl rfl)
theorem dX6_lays_223 : decode cX6_lays 223 = .ok (.iastore, 1) := dk_79 (dk_at dksX6_lays_9 16 rfl rfl)
theorem dX6_lays_224 : decode cX6_lays 224 = .ok (.aload_n 0, 1) := dk_42 (dk_at dksX6_lays_9 17 rfl rfl)
theorem dX6_lays_225 : decode cX6_lays 225 = .ok (.getfield 24, 3) := dk_180 0 24 (dk_at dksX6_lays_9 18 rfl rfl)
theorem dX6_lays_228 : decode cX6_lays 228 = .ok (.iconst 4, 1) := dk_7 (dk_at dksX6_lays_9 21 rfl rfl)
theorem dX6_lays_229 : decode cX6_lays 229 = .ok (.aload_n 0, 1) := dk_42 (dk_at dksX6_lays_9 22 rfl rfl)
theorem dX6_lays_230 : decode cX6_lays 230 = .ok (.getfield 93, 3) := dk_180 0 93 (dk_at dksX6_lays_10 0 rfl rfl)
theorem dX6_lays_233 : decode cX6_lays 233 = .ok (.imul, 1) := dk_104 (dk_at dksX6_lays_10 3 rfl rfl)
theorem dX6_lays_234 : decode cX6_lays 234 = .ok (.iconst 2, 1) := dk_5 (dk_at dksX6_lays_10 4 rfl rfl)
theorem dX6_lays_235 : decode cX6_lays 235 = .ok (.iadd, 1) := dk_96 (dk_at dksX6_lays_10 5 rfl rfl)
theorem dX6_lays_236 : decode cX6_lays 236 = .ok (.iload 7, 2) := dk_21 7 (dk_at dksX6_lays_10 6 rfl rfl)
theorem dX6_lays_238 : decode cX6_lays 238 = .ok (.aload_n 0, 1) := dk_42 (dk_at dksX6_lays_10 8 rfl rfl)
theorem dX6_lays_239 : decode cX6_lays 239 = .ok (.getfield 90, 3) := dk_180 0 90 (dk_at dksX6_lays_10 9 rfl rfl)
theorem dX6_lays_242 : decode cX6_lays 242 = .ok (.iconst 1, 1) := dk_4 (dk_at dksX6_lays_10 12 rfl rfl)
theorem dX6_lays_243 : decode cX6_lays 243 = .ok (.isub, 1) := dk_100 (dk_at dksX6_lays_10 13 rfl rfl)
theorem dX6_lays_244 : decode cX6_lays 244 = .ok (.if_icmp .ne 8, 3) := dk_160 0 8 (dk_at dksX6_lays_10 14 rfl rfl)
theorem dX6_lays_247 : decode cX6_lays 247 = .ok (.iload 9, 2) := dk_21 9 (dk_at dksX6_lays_10 17 rfl rfl)
theorem dX6_lays_249 : decode cX6_lays 249 = .ok (.goto 16, 3) := dk_167 0 16 (dk_at dksX6_lays_10 19 rfl rfl)
theorem dX6_lays_252 : decode cX6_lays 252 = .ok (.aload_n 0, 1) := dk_42 (dk_at dksX6_lays_10 22 rfl rfl)
theorem dX6_lays_253 : decode cX6_lays 253 = .ok (.getfield 24, 3) := dk_180 0 24 (dk_at dksX6_lays_11 0 rfl rfl)
theorem dX6_lays_256 : decode cX6_lays 256 = .ok (.iconst 4, 1) := dk_7 (dk_at dksX6_lays_11 3 rfl rfl)
theorem dX6_lays_257 : decode cX6_lays 257 = .ok (.aload_n 0, 1) := dk_42 (dk_at dksX6_lays_11 4 rfl rfl)
theorem dX6_lays_258 : decode cX6_lays 258 = .ok (.getfield 93, 3) := dk_180 0 93 (dk_at dksX6_lays_11 5 rfl rfl)
theorem dX6_lays_261 : decode cX6_lays 261 = .ok (.imul, 1) := dk_104 (dk_at dksX6_lays_11 8 rfl rfl)
theorem dX6_lays_262 : decode cX6_lays 262 = .ok (.iconst 2, 1) := dk_5 (dk_at dksX6_lays_11 9 rfl rfl)
theorem dX6_lays_263 : decode cX6_lays 263 = .ok (.iadd, 1) := dk_96 (dk_at dksX6_lays_11 10 rfl rfl)
theorem dX6_lays_264 : decode cX6_lays 264 = .ok (.iaload, 1) := dk_46 (dk_at dksX6_lays_11 11 rfl rfl)
theorem dX6_lays_265 : decode cX6_lays 265 = .ok (.iastore, 1) := dk_79 (dk_at dksX6_lays_11 12 rfl rfl)
theorem dX6_lays_266 : decode cX6_lays 266 = .ok (.aload_n 0, 1) := dk_42 (dk_at dksX6_lays_11 13 rfl rfl)
theorem dX6_lays_267 : decode cX6_lays 267 = .ok (.getfield 24, 3) := dk_180 0 24 (dk_at dksX6_lays_11 14 rfl rfl)
theorem dX6_lays_270 : decode cX6_lays 270 = .ok (.iconst 4, 1) := dk_7 (dk_at dksX6_lays_11 17 rfl rfl)
theorem dX6_lays_271 : decode cX6_lays 271 = .ok (.aload_n 0, 1) := dk_42 (dk_at dksX6_lays_11 18 rfl rfl)
theorem dX6_lays_272 : decode cX6_lays 272 = .ok (.getfield 93, 3) := dk_180 0 93 (dk_at dksX6_lays_11 19 rfl rfl)
theorem dX6_lays_275 : decode cX6_lays 275 = .ok (.imul, 1) := dk_104 (dk_at dksX6_lays_11 22 rfl rfl)
theorem dX6_lays_276 : decode cX6_lays 276 = .ok (.iconst 3, 1) := dk_6 (dk_at dksX6_lays_11 23 rfl rfl)
theorem dX6_lays_277 : decode cX6_lays 277 = .ok (.iadd, 1) := dk_96 (dk_at dksX6_lays_12 0 rfl rfl)
theorem dX6_lays_278 : decode cX6_lays 278 = .ok (.iload 7, 2) := dk_21 7 (dk_at dksX6_lays_12 1 rfl rfl)
theorem dX6_lays_280 : decode cX6_lays 280 = .ok (.aload_n 0, 1) := dk_42 (dk_at dksX6_lays_12 3 rfl rfl)
theorem dX6_lays_281 : decode cX6_lays 281 = .ok (.getfield 90, 3) := dk_180 0 90 (dk_at dksX6_lays_12 4 rfl rfl)
theorem dX6_lays_284 : decode cX6_lays 284 = .ok (.iconst 2, 1) := dk_5 (dk_at dksX6_lays_12 7 rfl rfl)
theorem dX6_lays_285 : decode cX6_lays 285 = .ok (.isub, 1) := dk_100 (dk_at dksX6_lays_12 8 rfl rfl)
theorem dX6_lays_286 : decode cX6_lays 286 = .ok (.if_icmp .ne 8, 3) := dk_160 0 8 (dk_at dksX6_lays_12 9 rfl rfl)
theorem dX6_lays_289 : decode cX6_lays 289 = .ok (.iload 9, 2) := dk_21 9 (dk_at dksX6_lays_12 12 rfl rfl)
theorem dX6_lays_291 : decode cX6_lays 291 = .ok (.goto 16, 3) := dk_167 0 16 (dk_at dksX6_lays_12 14 rfl rfl)
theorem dX6_lays_294 : decode cX6_lays 294 = .ok (.aload_n 0, 1) := dk_42 (dk_at dksX6_lays_12 17 rfl rfl)
theorem dX6_lays_295 : decode cX6_lays 295 = .ok (.getfield 24, 3) := dk_180 0 24 (dk_at dksX6_lays_12 18 rfl rfl)
theorem dX6_lays_298 : decode cX6_lays 298 = .ok (.iconst 4, 1) := dk_7 (dk_at dksX6_lays_12 21 rfl rfl)
theorem dX6_lays_299 : decode cX6_lays 299 = .ok (.aload_n 0, 1) := dk_42 (dk_at dksX6_lays_12 22 rfl rfl)
theorem dX6_lays_300 : decode cX6_lays 300 = .ok (.getfield 93, 3) := dk_180 0 93 (dk_at dksX6_lays_13 0 rfl rfl)
theorem dX6_lays_303 : decode cX6_lays 303 = .ok (.imul, 1) := dk_104 (dk_at dksX6_lays_13 3 rfl rfl)
theorem dX6_lays_304 : decode cX6_lays 304 = .ok (.iconst 3, 1) := dk_6 (dk_at dksX6_lays_13 4 rfl rfl)
theorem dX6_lays_305 : decode cX6_lays 305 = .ok (.iadd, 1) := dk_96 (dk_at dksX6_lays_13 5 rfl rfl)
theorem dX6_lays_306 : decode cX6_lays 306 = .ok (.iaload, 1) := dk_46 (dk_at dksX6_lays_13 6 rfl rfl)
theorem dX6_lays_307 : decode cX6_lays 307 = .ok (.iastore, 1) := dk_79 (dk_at dksX6_lays_13 7 rfl rfl)
theorem dX6_lays_308 : decode cX6_lays 308 = .ok (.iinc 7 1, 3) := dk_132 7 1 (dk_at dksX6_lays_13 8 rfl rfl)
theorem dX6_lays_311 : decode cX6_lays 311 = .ok (.iinc 8 1, 3) := dk_132 8 1 (dk_at dksX6_lays_13 11 rfl rfl)
theorem dX6_lays_314 : decode cX6_lays 314 = .ok (.goto (-188), 3) := dk_167 255 68 (dk_at dksX6_lays_13 14 rfl rfl)
theorem dX6_lays_317 : decode cX6_lays 317 = .ok (.aload_n 0, 1) := dk_42 (dk_at dksX6_lays_13 17 rfl rfl)
theorem dX6_lays_318 : decode cX6_lays 318 = .ok (.dup, 1) := dk_89 (dk_at dksX6_lays_13 18 rfl rfl)
theorem dX6_lays_319 : decode cX6_lays 319 = .ok (.getfield 93, 3) := dk_180 0 93 (dk_at dksX6_lays_13 19 rfl rfl)
theorem dX6_lays_322 : decode cX6_lays 322 = .ok (.iconst 1, 1) := dk_4 (dk_at dksX6_lays_13 22 rfl rfl)
theorem dX6_lays_323 : decode cX6_lays 323 = .ok (.iadd, 1) := dk_96 (dk_at dksX6_lays_13 23 rfl rfl)
theorem dX6_lays_324 : decode cX6_lays 324 = .ok (.putfield 93, 3) := dk_181 0 93 (dk_at dksX6_lays_14 0 rfl rfl)
theorem dX6_lays_327 : decode cX6_lays 327 = .ok (.return_, 1) := dk_177 (dk_at dksX6_lays_14 3 rfl rfl)
abbrev cX6_cellAt : ByteArray := prog_10_method_21_code
def yX6_cellAt : MethodName := ⟨RX6, "cellAt", "(II)I"⟩
def dkwX6_cellAt_2 : List UInt8 := [167, 0, 10, 29, 4, 100, 28, 4, 96, 104, 172]
abbrev dktX6_cellAt_2 : List UInt8 := dkwX6_cellAt_2 ++ []
def dkwX6_cellAt_1 : List UInt8 := [162, 0, 11, 29, 28, 104, 27, 96, 29, 100, 172, 27, 5, 29, 104, 160, 0, 11, 29, 4, 96, 28, 104]
abbrev dktX6_cellAt_1 : List UInt8 := dkwX6_cellAt_1 ++ dktX6_cellAt_2
def dkwX6_cellAt_0 : List UInt8 := [42, 180, 0, 7, 3, 46, 62, 27, 29, 162, 0, 9, 29, 27, 104, 28, 96, 172, 27, 5, 29, 104]
abbrev dktX6_cellAt_0 : List UInt8 := dkwX6_cellAt_0 ++ dktX6_cellAt_1
theorem dksX6_cellAt_0 : cX6_cellAt.data.toList.drop 0 = dktX6_cellAt_0 := by decide +kernel
theorem dksX6_cellAt_1 : cX6_cellAt.data.toList.drop 22 = dktX6_cellAt_1 := dk_seg dksX6_cellAt_0 22 rfl rfl
theorem dksX6_cellAt_2 : cX6_cellAt.data.toList.drop 45 = dktX6_cellAt_2 := dk_seg dksX6_cellAt_1 23 rfl rfl
theorem dX6_cellAt_0 : decode cX6_cellAt 0 = .ok (.aload_n 0, 1) := dk_42 (dk_at dksX6_cellAt_0 0 rfl rfl)
theorem dX6_cellAt_1 : decode cX6_cellAt 1 = .ok (.getfield 7, 3) := dk_180 0 7 (dk_at dksX6_cellAt_0 1 rfl rfl)
theorem dX6_cellAt_4 : decode cX6_cellAt 4 = .ok (.iconst 0, 1) := dk_3 (dk_at dksX6_cellAt_0 4 rfl rfl)
theorem dX6_cellAt_5 : decode cX6_cellAt 5 = .ok (.iaload, 1) := dk_46 (dk_at dksX6_cellAt_0 5 rfl rfl)
theorem dX6_cellAt_6 : decode cX6_cellAt 6 = .ok (.istore_n 3, 1) := dk_62 (dk_at dksX6_cellAt_0 6 rfl rfl)
theorem dX6_cellAt_7 : decode cX6_cellAt 7 = .ok (.iload_n 1, 1) := dk_27 (dk_at dksX6_cellAt_0 7 rfl rfl)
theorem dX6_cellAt_8 : decode cX6_cellAt 8 = .ok (.iload_n 3, 1) := dk_29 (dk_at dksX6_cellAt_0 8 rfl rfl)
theorem dX6_cellAt_9 : decode cX6_cellAt 9 = .ok (.if_icmp .ge 9, 3) := dk_162 0 9 (dk_at dksX6_cellAt_0 9 rfl rfl)
theorem dX6_cellAt_12 : decode cX6_cellAt 12 = .ok (.iload_n 3, 1) := dk_29 (dk_at dksX6_cellAt_0 12 rfl rfl)
theorem dX6_cellAt_13 : decode cX6_cellAt 13 = .ok (.iload_n 1, 1) := dk_27 (dk_at dksX6_cellAt_0 13 rfl rfl)
theorem dX6_cellAt_14 : decode cX6_cellAt 14 = .ok (.imul, 1) := dk_104 (dk_at dksX6_cellAt_0 14 rfl rfl)
theorem dX6_cellAt_15 : decode cX6_cellAt 15 = .ok (.iload_n 2, 1) := dk_28 (dk_at dksX6_cellAt_0 15 rfl rfl)
theorem dX6_cellAt_16 : decode cX6_cellAt 16 = .ok (.iadd, 1) := dk_96 (dk_at dksX6_cellAt_0 16 rfl rfl)
theorem dX6_cellAt_17 : decode cX6_cellAt 17 = .ok (.ireturn, 1) := dk_172 (dk_at dksX6_cellAt_0 17 rfl rfl)
theorem dX6_cellAt_18 : decode cX6_cellAt 18 = .ok (.iload_n 1, 1) := dk_27 (dk_at dksX6_cellAt_0 18 rfl rfl)
theorem dX6_cellAt_19 : decode cX6_cellAt 19 = .ok (.iconst 2, 1) := dk_5 (dk_at dksX6_cellAt_0 19 rfl rfl)
theorem dX6_cellAt_20 : decode cX6_cellAt 20 = .ok (.iload_n 3, 1) := dk_29 (dk_at dksX6_cellAt_0 20 rfl rfl)
theorem dX6_cellAt_21 : decode cX6_cellAt 21 = .ok (.imul, 1) := dk_104 (dk_at dksX6_cellAt_0 21 rfl rfl)
theorem dX6_cellAt_22 : decode cX6_cellAt 22 = .ok (.if_icmp .ge 11, 3) := dk_162 0 11 (dk_at dksX6_cellAt_1 0 rfl rfl)
theorem dX6_cellAt_25 : decode cX6_cellAt 25 = .ok (.iload_n 3, 1) := dk_29 (dk_at dksX6_cellAt_1 3 rfl rfl)
theorem dX6_cellAt_26 : decode cX6_cellAt 26 = .ok (.iload_n 2, 1) := dk_28 (dk_at dksX6_cellAt_1 4 rfl rfl)
theorem dX6_cellAt_27 : decode cX6_cellAt 27 = .ok (.imul, 1) := dk_104 (dk_at dksX6_cellAt_1 5 rfl rfl)
theorem dX6_cellAt_28 : decode cX6_cellAt 28 = .ok (.iload_n 1, 1) := dk_27 (dk_at dksX6_cellAt_1 6 rfl rfl)
theorem dX6_cellAt_29 : decode cX6_cellAt 29 = .ok (.iadd, 1) := dk_96 (dk_at dksX6_cellAt_1 7 rfl rfl)
theorem dX6_cellAt_30 : decode cX6_cellAt 30 = .ok (.iload_n 3, 1) := dk_29 (dk_at dksX6_cellAt_1 8 rfl rfl)
theorem dX6_cellAt_31 : decode cX6_cellAt 31 = .ok (.isub, 1) := dk_100 (dk_at dksX6_cellAt_1 9 rfl rfl)
theorem dX6_cellAt_32 : decode cX6_cellAt 32 = .ok (.ireturn, 1) := dk_172 (dk_at dksX6_cellAt_1 10 rfl rfl)
theorem dX6_cellAt_33 : decode cX6_cellAt 33 = .ok (.iload_n 1, 1) := dk_27 (dk_at dksX6_cellAt_1 11 rfl rfl)
theorem dX6_cellAt_34 : decode cX6_cellAt 34 = .ok (.iconst 2, 1) := dk_5 (dk_at dksX6_cellAt_1 12 rfl rfl)
theorem dX6_cellAt_35 : decode cX6_cellAt 35 = .ok (.iload_n 3, 1) := dk_29 (dk_at dksX6_cellAt_1 13 rfl rfl)
theorem dX6_cellAt_36 : decode cX6_cellAt 36 = .ok (.imul, 1) := dk_104 (dk_at dksX6_cellAt_1 14 rfl rfl)
theorem dX6_cellAt_37 : decode cX6_cellAt 37 = .ok (.if_icmp .ne 11, 3) := dk_160 0 11 (dk_at dksX6_cellAt_1 15 rfl rfl)
theorem dX6_cellAt_40 : decode cX6_cellAt 40 = .ok (.iload_n 3, 1) := dk_29 (dk_at dksX6_cellAt_1 18 rfl rfl)
theorem dX6_cellAt_41 : decode cX6_cellAt 41 = .ok (.iconst 1, 1) := dk_4 (dk_at dksX6_cellAt_1 19 rfl rfl)
theorem dX6_cellAt_42 : decode cX6_cellAt 42 = .ok (.iadd, 1) := dk_96 (dk_at dksX6_cellAt_1 20 rfl rfl)
theorem dX6_cellAt_43 : decode cX6_cellAt 43 = .ok (.iload_n 2, 1) := dk_28 (dk_at dksX6_cellAt_1 21 rfl rfl)
theorem dX6_cellAt_44 : decode cX6_cellAt 44 = .ok (.imul, 1) := dk_104 (dk_at dksX6_cellAt_1 22 rfl rfl)
theorem dX6_cellAt_45 : decode cX6_cellAt 45 = .ok (.goto 10, 3) := dk_167 0 10 (dk_at dksX6_cellAt_2 0 rfl rfl)
theorem dX6_cellAt_48 : decode cX6_cellAt 48 = .ok (.iload_n 3, 1) := dk_29 (dk_at dksX6_cellAt_2 3 rfl rfl)
theorem dX6_cellAt_49 : decode cX6_cellAt 49 = .ok (.iconst 1, 1) := dk_4 (dk_at dksX6_cellAt_2 4 rfl rfl)
theorem dX6_cellAt_50 : decode cX6_cellAt 50 = .ok (.isub, 1) := dk_100 (dk_at dksX6_cellAt_2 5 rfl rfl)
theorem dX6_cellAt_51 : decode cX6_cellAt 51 = .ok (.iload_n 2, 1) := dk_28 (dk_at dksX6_cellAt_2 6 rfl rfl)
theorem dX6_cellAt_52 : decode cX6_cellAt 52 = .ok (.iconst 1, 1) := dk_4 (dk_at dksX6_cellAt_2 7 rfl rfl)
theorem dX6_cellAt_53 : decode cX6_cellAt 53 = .ok (.iadd, 1) := dk_96 (dk_at dksX6_cellAt_2 8 rfl rfl)
theorem dX6_cellAt_54 : decode cX6_cellAt 54 = .ok (.imul, 1) := dk_104 (dk_at dksX6_cellAt_2 9 rfl rfl)
theorem dX6_cellAt_55 : decode cX6_cellAt 55 = .ok (.ireturn, 1) := dk_172 (dk_at dksX6_cellAt_2 10 rfl rfl)
abbrev cX6_exchange : ByteArray := prog_10_method_67_code
def yX6_exchange : MethodName := ⟨RX6, "exchange", "(II)I"⟩
def dkwX6_exchange_9 : List UInt8 := [29, 172]
abbrev dktX6_exchange_9 : List UInt8 := dkwX6_exchange_9 ++ []
def dkwX6_exchange_8 : List UInt8 := [132, 6, 1, 167, 255, 206, 42, 180, 0, 7, 16, 23, 21, 4, 96, 21, 5, 79, 132, 4, 1, 167, 255, 173]
abbrev dktX6_exchange_8 : List UInt8 := dkwX6_exchange_8 ++ dktX6_exchange_9
def dkwX6_exchange_7 : List UInt8 := [21, 6, 184, 0, 102, 153, 0, 15, 4, 21, 6, 27, 28, 184, 0, 236, 120, 167, 0, 4, 3, 128, 54, 5]
abbrev dktX6_exchange_7 : List UInt8 := dkwX6_exchange_7 ++ dktX6_exchange_8
def dkwX6_exchange_6 : List UInt8 := [21, 6, 42, 180, 0, 7, 4, 46, 163, 0, 45, 21, 5, 42, 180, 0, 7, 16, 23, 21, 4, 96, 46]
abbrev dktX6_exchange_6 : List UInt8 := dkwX6_exchange_6 ++ dktX6_exchange_7
def dkwX6_exchange_5 : List UInt8 := [132, 4, 1, 167, 255, 176, 3, 54, 4, 21, 4, 42, 182, 0, 66, 162, 0, 80, 3, 54, 5, 3, 54, 6]
abbrev dktX6_exchange_5 : List UInt8 := dkwX6_exchange_5 ++ dktX6_exchange_6
def dkwX6_exchange_4 : List UInt8 := [180, 0, 7, 6, 21, 4, 96, 92, 46, 5, 21, 5, 27, 28, 184, 0, 236, 21, 5, 100, 104, 96, 79]
abbrev dktX6_exchange_4 : List UInt8 := dkwX6_exchange_4 ++ dktX6_exchange_5
def dkwX6_exchange_3 : List UInt8 := [29, 21, 5, 27, 159, 0, 9, 21, 5, 28, 160, 0, 7, 4, 167, 0, 4, 3, 184, 0, 80, 96, 62, 42]
abbrev dktX6_exchange_3 : List UInt8 := dkwX6_exchange_3 ++ dktX6_exchange_4
def dkwX6_exchange_2 : List UInt8 := [162, 0, 77, 42, 42, 180, 0, 7, 6, 21, 4, 96, 46, 182, 0, 217, 54, 5, 21, 5, 2, 159, 0, 50]
abbrev dktX6_exchange_2 : List UInt8 := dkwX6_exchange_2 ++ dktX6_exchange_3
def dkwX6_exchange_1 : List UInt8 := [182, 0, 210, 154, 0, 5, 3, 172, 42, 182, 0, 214, 3, 62, 3, 54, 4, 21, 4, 42, 182, 0, 74]
abbrev dktX6_exchange_1 : List UInt8 := dkwX6_exchange_1 ++ dktX6_exchange_2
def dkwX6_exchange_0 : List UInt8 := [42, 42, 27, 182, 0, 223, 153, 0, 15, 42, 28, 182, 0, 223, 153, 0, 7, 4, 167, 0, 4, 3, 4, 4]
abbrev dktX6_exchange_0 : List UInt8 := dkwX6_exchange_0 ++ dktX6_exchange_1
theorem dksX6_exchange_0 : cX6_exchange.data.toList.drop 0 = dktX6_exchange_0 := by decide +kernel
theorem dksX6_exchange_1 : cX6_exchange.data.toList.drop 24 = dktX6_exchange_1 := dk_seg dksX6_exchange_0 24 rfl rfl
theorem dksX6_exchange_2 : cX6_exchange.data.toList.drop 47 = dktX6_exchange_2 := dk_seg dksX6_exchange_1 23 rfl rfl
theorem dksX6_exchange_3 : cX6_exchange.data.toList.drop 71 = dktX6_exchange_3 := dk_seg dksX6_exchange_2 24 rfl rfl
theorem dksX6_exchange_4 : cX6_exchange.data.toList.drop 95 = dktX6_exchange_4 := dk_seg dksX6_exchange_3 24 rfl rfl
theorem dksX6_exchange_5 : cX6_exchange.data.toList.drop 118 = dktX6_exchange_5 := dk_seg dksX6_exchange_4 23 rfl rfl
theorem dksX6_exchange_6 : cX6_exchange.data.toList.drop 142 = dktX6_exchange_6 := dk_seg dksX6_exchange_5 24 rfl rfl
theorem dksX6_exchange_7 : cX6_exchange.data.toList.drop 165 = dktX6_exchange_7 := dk_seg dksX6_exchange_6 23 rfl rfl
theorem dksX6_exchange_8 : cX6_exchange.data.toList.drop 189 = dktX6_exchange_8 := dk_seg dksX6_exchange_7 24 rfl rfl
theorem dksX6_exchange_9 : cX6_exchange.data.toList.drop 213 = dktX6_exchange_9 := dk_seg dksX6_exchange_8 24 rfl rfl
theorem dX6_exchange_0 : decode cX6_exchange 0 = .ok (.aload_n 0, 1) := dk_42 (dk_at dksX6_exchange_0 0 rfl rfl)
theorem dX6_exchange_1 : decode cX6_exchange 1 = .ok (.aload_n 0, 1) := dk_42 (dk_at dksX6_exchange_0 1 rfl rfl)
theorem dX6_exchange_2 : decode cX6_exchange 2 = .ok (.iload_n 1, 1) := dk_27 (dk_at dksX6_exchange_0 2 rfl rfl)
theorem dX6_exchange_3 : decode cX6_exchange 3 = .ok (.invokevirtual 223, 3) := dk_182 0 223 (dk_at dksX6_exchange_0 3 rfl rfl)
theorem dX6_exchange_6 : decode cX6_exchange 6 = .ok (.ifCond .eq 15, 3) := dk_153 0 15 (dk_at dksX6_exchange_0 6 rfl rfl)
theorem dX6_exchange_9 : decode cX6_exchange 9 = .ok (.aload_n 0, 1) := dk_42 (dk_at dksX6_exchange_0 9 rfl rfl)
theorem dX6_exchange_10 : decode cX6_exchange 10 = .ok (.iload_n 2, 1) := dk_28 (dk_at dksX6_exchange_0 10 rfl rfl)
theorem dX6_exchange_11 : decode cX6_exchange 11 = .ok (.invokevirtual 223, 3) := dk_182 0 223 (dk_at dksX6_exchange_0 11 rfl rfl)
theorem dX6_exchange_14 : decode cX6_exchange 14 = .ok (.ifCond .eq 7, 3) := dk_153 0 7 (dk_at dksX6_exchange_0 14 rfl rfl)
theorem dX6_exchange_17 : decode cX6_exchange 17 = .ok (.iconst 1, 1) := dk_4 (dk_at dksX6_exchange_0 17 rfl rfl)
theorem dX6_exchange_18 : decode cX6_exchange 18 = .ok (.goto 4, 3) := dk_167 0 4 (dk_at dksX6_exchange_0 18 rfl rfl)
theorem dX6_exchange_21 : decode cX6_exchange 21 = .ok (.iconst 0, 1) := dk_3 (dk_at dksX6_exchange_0 21 rfl rfl)
theorem dX6_exchange_22 : decode cX6_exchange 22 = .ok (.iconst 1, 1) := dk_4 (dk_at dksX6_exchange_0 22 rfl rfl)
theorem dX6_exchange_23 : decode cX6_exchange 23 = .ok (.iconst 1, 1) := dk_4 (dk_at dksX6_exchange_0 23 rfl rfl)
theorem dX6_exchange_24 : decode cX6_exchange 24 = .ok (.invokevirtual 210, 3) := dk_182 0 210 (dk_at dksX6_exchange_1 0 rfl rfl)
theorem dX6_exchange_27 : decode cX6_exchange 27 = .ok (.ifCond .ne 5, 3) := dk_154 0 5 (dk_at dksX6_exchange_1 3 rfl rfl)
theorem dX6_exchange_30 : decode cX6_exchange 30 = .ok (.iconst 0, 1) := dk_3 (dk_at dksX6_exchange_1 6 rfl rfl)
theorem dX6_exchange_31 : decode cX6_exchange 31 = .ok (.ireturn, 1) := dk_172 (dk_at dksX6_exchange_1 7 rfl rfl)
theorem dX6_exchange_32 : decode cX6_exchange 32 = .ok (.aload_n 0, 1) := dk_42 (dk_at dksX6_exchange_1 8 rfl rfl)
theorem dX6_exchange_33 : decode cX6_exchange 33 = .ok (.invokevirtual 214, 3) := dk_182 0 214 (dk_at dksX6_exchange_1 9 rfl rfl)
theorem dX6_exchange_36 : decode cX6_exchange 36 = .ok (.iconst 0, 1) := dk_3 (dk_at dksX6_exchange_1 12 rfl rfl)
theorem dX6_exchange_37 : decode cX6_exchange 37 = .ok (.istore_n 3, 1) := dk_62 (dk_at dksX6_exchange_1 13 rfl rfl)
theorem dX6_exchange_38 : decode cX6_exchange 38 = .ok (.iconst 0, 1) := dk_3 (dk_at dksX6_exchange_1 14 rfl rfl)
theorem dX6_exchange_39 : decode cX6_exchange 39 = .ok (.istore 4, 2) := dk_54 4 (dk_at dksX6_exchange_1 15 rfl rfl)
theorem dX6_exchange_41 : decode cX6_exchange 41 = .ok (.iload 4, 2) := dk_21 4 (dk_at dksX6_exchange_1 17 rfl rfl)
theorem dX6_exchange_43 : decode cX6_exchange 43 = .ok (.aload_n 0, 1) := dk_42 (dk_at dksX6_exchange_1 19 rfl rfl)
theorem dX6_exchange_44 : decode cX6_exchange 44 = .ok (.invokevirtual 74, 3) := dk_182 0 74 (dk_at dksX6_exchange_1 20 rfl rfl)
theorem dX6_exchange_47 : decode cX6_exchange 47 = .ok (.if_icmp .ge 77, 3) := dk_162 0 77 (dk_at dksX6_exchange_2 0 rfl rfl)
theorem dX6_exchange_50 : decode cX6_exchange 50 = .ok (.aload_n 0, 1) := dk_42 (dk_at dksX6_exchange_2 3 rfl rfl)
theorem dX6_exchange_51 : decode cX6_exchange 51 = .ok (.aload_n 0, 1) := dk_42 (dk_at dksX6_exchange_2 4 rfl rfl)
theorem dX6_exchange_52 : decode cX6_exchange 52 = .ok (.getfield 7, 3) := dk_180 0 7 (dk_at dksX6_exchange_2 5 rfl rfl)
theorem dX6_exchange_55 : decode cX6_exchange 55 = .ok (.iconst 3, 1) := dk_6 (dk_at dksX6_exchange_2 8 rfl rfl)
theorem dX6_exchange_56 : decode cX6_exchange 56 = .ok (.iload 4, 2) := dk_21 4 (dk_at dksX6_exchange_2 9 rfl rfl)
theorem dX6_exchange_58 : decode cX6_exchange 58 = .ok (.iadd, 1) := dk_96 (dk_at dksX6_exchange_2 11 rfl rfl)
theorem dX6_exchange_59 : decode cX6_exchange 59 = .ok (.iaload, 1) := dk_46 (dk_at dksX6_exchange_2 12 rfl rfl)
theorem dX6_exchange_60 : decode cX6_exchange 60 = .ok (.invokevirtual 217, 3) := dk_182 0 217 (dk_at dksX6_exchange_2 13 rfl rfl)
theorem dX6_exchange_63 : decode cX6_exchange 63 = .ok (.istore 5, 2) := dk_54 5 (dk_at dksX6_exchange_2 16 rfl rfl)
theorem dX6_exchange_65 : decode cX6_exchange 65 = .ok (.iload 5, 2) := dk_21 5 (dk_at dksX6_exchange_2 18 rfl rfl)
theorem dX6_exchange_67 : decode cX6_exchange 67 = .ok (.iconst (-1), 1) := dk_2 (dk_at dksX6_exchange_2 20 rfl rfl)
theorem dX6_exchange_68 : decode cX6_exchange 68 = .ok (.if_icmp .eq 50, 3) := dk_159 0 50 (dk_at dksX6_exchange_2 21 rfl rfl)
theorem dX6_exchange_71 : decode cX6_exchange 71 = .ok (.iload_n 3, 1) := dk_29 (dk_at dksX6_exchange_3 0 rfl rfl)
theorem dX6_exchange_72 : decode cX6_exchange 72 = .ok (.iload 5, 2) := dk_21 5 (dk_at dksX6_exchange_3 1 rfl rfl)
theorem dX6_exchange_74 : decode cX6_exchange 74 = .ok (.iload_n 1, 1) := dk_27 (dk_at dksX6_exchange_3 3 rfl rfl)
theorem dX6_exchange_75 : decode cX6_exchange 75 = .ok (.if_icmp .eq 9, 3) := dk_159 0 9 (dk_at dksX6_exchange_3 4 rfl rfl)
theorem dX6_exchange_78 : decode cX6_exchange 78 = .ok (.iload 5, 2) := dk_21 5 (dk_at dksX6_exchange_3 7 rfl rfl)
theorem dX6_exchange_80 : decode cX6_exchange 80 = .ok (.iload_n 2, 1) := dk_28 (dk_at dksX6_exchange_3 9 rfl rfl)
theorem dX6_exchange_81 : decode cX6_exchange 81 = .ok (.if_icmp .ne 7, 3) := dk_160 0 7 (dk_at dksX6_exchange_3 10 rfl rfl)
theorem dX6_exchange_84 : decode cX6_exchange 84 = .ok (.iconst 1, 1) := dk_4 (dk_at dksX6_exchange_3 13 rfl rfl)
theorem dX6_exchange_85 : decode cX6_exchange 85 = .ok (.goto 4, 3) := dk_167 0 4 (dk_at dksX6_exchange_3 14 rfl rfl)
theorem dX6_exchange_88 : decode cX6_exchange 88 = .ok (.iconst 0, 1) := dk_3 (dk_at dksX6_exchange_3 17 rfl rfl)
theorem dX6_exchange_89 : decode cX6_exchange 89 = .ok (.invokestatic 80, 3) := dk_184 0 80 (dk_at dksX6_exchange_3 18 rfl rfl)
theorem dX6_exchange_92 : decode cX6_exchange 92 = .ok (.iadd, 1) := dk_96 (dk_at dksX6_exchange_3 21 rfl rfl)
theorem dX6_exchange_93 : decode cX6_exchange 93 = .ok (.istore_n 3, 1) := dk_62 (dk_at dksX6_exchange_3 22 rfl rfl)
theorem dX6_exchange_94 : decode cX6_exchange 94 = .ok (.aload_n 0, 1) := dk_42 (dk_at dksX6_exchange_3 23 rfl rfl)
theorem dX6_exchange_95 : decode cX6_exchange 95 = .ok (.getfield 7, 3) := dk_180 0 7 (dk_at dksX6_exchange_4 0 rfl rfl)
theorem dX6_exchange_98 : decode cX6_exchange 98 = .ok (.iconst 3, 1) := dk_6 (dk_at dksX6_exchange_4 3 rfl rfl)
theorem dX6_exchange_99 : decode cX6_exchange 99 = .ok (.iload 4, 2) := dk_21 4 (dk_at dksX6_exchange_4 4 rfl rfl)
theorem dX6_exchange_101 : decode cX6_exchange 101 = .ok (.iadd, 1) := dk_96 (dk_at dksX6_exchange_4 6 rfl rfl)
theorem dX6_exchange_102 : decode cX6_exchange 102 = .ok (.dup2, 1) := dk_92 (dk_at dksX6_exchange_4 7 rfl rfl)
theorem dX6_exchange_103 : decode cX6_exchange 103 = .ok (.iaload, 1) := dk_46 (dk_at dksX6_exchange_4 8 rfl rfl)
theorem dX6_exchange_104 : decode cX6_exchange 104 = .ok (.iconst 2, 1) := dk_5 (dk_at dksX6_exchange_4 9 rfl rfl)
theorem dX6_exchange_105 : decode cX6_exchange 105 = .ok (.iload 5, 2) := dk_21 5 (dk_at dksX6_exchange_4 10 rfl rfl)
theorem dX6_exchange_107 : decode cX6_exchange 107 = .ok (.iload_n 1, 1) := dk_27 (dk_at dksX6_exchange_4 12 rfl rfl)
theorem dX6_exchange_108 : decode cX6_exchange 108 = .ok (.iload_n 2, 1) := dk_28 (dk_at dksX6_exchange_4 13 rfl rfl)
theorem dX6_exchange_109 : decode cX6_exchange 109 = .ok (.invokestatic 236, 3) := dk_184 0 236 (dk_at dksX6_exchange_4 14 rfl rfl)
theorem dX6_exchange_112 : decode cX6_exchange 112 = .ok (.iload 5, 2) := dk_21 5 (dk_at dksX6_exchange_4 17 rfl rfl)
theorem dX6_exchange_114 : decode cX6_exchange 114 = .ok (.isub, 1) := dk_100 (dk_at dksX6_exchange_4 19 rfl rfl)
theorem dX6_exchange_115 : decode cX6_exchange 115 = .ok (.imul, 1) := dk_104 (dk_at dksX6_exchange_4 20 rfl rfl)
theorem dX6_exchange_116 : decode cX6_exchange 116 = .ok (.iadd, 1) := dk_96 (dk_at dksX6_exchange_4 21 rfl rfl)
theorem dX6_exchange_117 : decode cX6_exchange 117 = .ok (.iastore, 1) := dk_79 (dk_at dksX6_exchange_4 22 rfl rfl)
theorem dX6_exchange_118 : decode cX6_exchange 118 = .ok (.iinc 4 1, 3) := dk_132 4 1 (dk_at dksX6_exchange_5 0 rfl rfl)
theorem dX6_exchange_121 : decode cX6_exchange 121 = .ok (.goto (-80), 3) := dk_167 255 176 (dk_at dksX6_exchange_5 3 rfl rfl)
theorem dX6_exchange_124 : decode cX6_exchange 124 = .ok (.iconst 0, 1) := dk_3 (dk_at dksX6_exchange_5 6 rfl rfl)
theorem dX6_exchange_125 : decode cX6_exchange 125 = .ok (.istore 4, 2) := dk_54 4 (dk_at dksX6_exchange_5 7 rfl rfl)
theorem dX6_exchange_127 : decode cX6_exchange 127 = .ok (.iload 4, 2) := dk_21 4 (dk_at dksX6_exchange_5 9 rfl rfl)
theorem dX6_exchange_129 : decode cX6_exchange 129 = .ok (.aload_n 0, 1) := dk_42 (dk_at dksX6_exchange_5 11 rfl rfl)
theorem dX6_exchange_130 : decode cX6_exchange 130 = .ok (.invokevirtual 66, 3) := dk_182 0 66 (dk_at dksX6_exchange_5 12 rfl rfl)
theorem dX6_exchange_133 : decode cX6_exchange 133 = .ok (.if_icmp .ge 80, 3) := dk_162 0 80 (dk_at dksX6_exchange_5 15 rfl rfl)
theorem dX6_exchange_136 : decode cX6_exchange 136 = .ok (.iconst 0, 1) := dk_3 (dk_at dksX6_exchange_5 18 rfl rfl)
theorem dX6_exchange_137 : decode cX6_exchange 137 = .ok (.istore 5, 2) := dk_54 5 (dk_at dksX6_exchange_5 19 rfl rfl)
theorem dX6_exchange_139 : decode cX6_exchange 139 = .ok (.iconst 0, 1) := dk_3 (dk_at dksX6_exchange_5 21 rfl rfl)
theorem dX6_exchange_140 : decode cX6_exchange 140 = .ok (.istore 6, 2) := dk_54 6 (dk_at dksX6_exchange_5 22 rfl rfl)
theorem dX6_exchange_142 : decode cX6_exchange 142 = .ok (.iload 6, 2) := dk_21 6 (dk_at dksX6_exchange_6 0 rfl rfl)
theorem dX6_exchange_144 : decode cX6_exchange 144 = .ok (.aload_n 0, 1) := dk_42 (dk_at dksX6_exchange_6 2 rfl rfl)
theorem dX6_exchange_145 : decode cX6_exchange 145 = .ok (.getfield 7, 3) := dk_180 0 7 (dk_at dksX6_exchange_6 3 rfl rfl)
theorem dX6_exchange_148 : decode cX6_exchange 148 = .ok (.iconst 1, 1) := dk_4 (dk_at dksX6_exchange_6 6 rfl rfl)
theorem dX6_exchange_149 : decode cX6_exchange 149 = .ok (.iaload, 1) := dk_46 (dk_at dksX6_exchange_6 7 rfl rfl)
theorem dX6_exchange_150 : decode cX6_exchange 150 = .ok (.if_icmp .gt 45, 3) := dk_163 0 45 (dk_at dksX6_exchange_6 8 rfl rfl)
theorem dX6_exchange_153 : decode cX6_exchange 153 = .ok (.iload 5, 2) := dk_21 5 (dk_at dksX6_exchange_6 11 rfl rfl)
theorem dX6_exchange_155 : decode cX6_exchange 155 = .ok (.aload_n 0, 1) := dk_42 (dk_at dksX6_exchange_6 13 rfl rfl)
theorem dX6_exchange_156 : decode cX6_exchange 156 = .ok (.getfield 7, 3) := dk_180 0 7 (dk_at dksX6_exchange_6 14 rfl rfl)
theorem dX6_exchange_159 : decode cX6_exchange 159 = .ok (.bipush 23, 2) := dk_16 23 (dk_at dksX6_exchange_6 17 rfl rfl)
theorem dX6_exchange_161 : decode cX6_exchange 161 = .ok (.iload 4, 2) := dk_21 4 (dk_at dksX6_exchange_6 19 rfl rfl)
theorem dX6_exchange_163 : decode cX6_exchange 163 = .ok (.iadd, 1) := dk_96 (dk_at dksX6_exchange_6 21 rfl rfl)
theorem dX6_exchange_164 : decode cX6_exchange 164 = .ok (.iaload, 1) := dk_46 (dk_at dksX6_exchange_6 22 rfl rfl)
theorem dX6_exchange_165 : decode cX6_exchange 165 = .ok (.iload 6, 2) := dk_21 6 (dk_at dksX6_exchange_7 0 rfl rfl)
theorem dX6_exchange_167 : decode cX6_exchange 167 = .ok (.invokestatic 102, 3) := dk_184 0 102 (dk_at dksX6_exchange_7 2 rfl rfl)
theorem dX6_exchange_170 : decode cX6_exchange 170 = .ok (.ifCond .eq 15, 3) := dk_153 0 15 (dk_at dksX6_exchange_7 5 rfl rfl)
theorem dX6_exchange_173 : decode cX6_exchange 173 = .ok (.iconst 1, 1) := dk_4 (dk_at dksX6_exchange_7 8 rfl rfl)
theorem dX6_exchange_174 : decode cX6_exchange 174 = .ok (.iload 6, 2) := dk_21 6 (dk_at dksX6_exchange_7 9 rfl rfl)
theorem dX6_exchange_176 : decode cX6_exchange 176 = .ok (.iload_n 1, 1) := dk_27 (dk_at dksX6_exchange_7 11 rfl rfl)
theorem dX6_exchange_177 : decode cX6_exchange 177 = .ok (.iload_n 2, 1) := dk_28 (dk_at dksX6_exchange_7 12 rfl rfl)
theorem dX6_exchange_178 : decode cX6_exchange 178 = .ok (.invokestatic 236, 3) := dk_184 0 236 (dk_at dksX6_exchange_7 13 rfl rfl)
theorem dX6_exchange_181 : decode cX6_exchange 181 = .ok (.ishl, 1) := dk_120 (dk_at dksX6_exchange_7 16 rfl rfl)
theorem dX6_exchange_182 : decode cX6_exchange 182 = .ok (.goto 4, 3) := dk_167 0 4 (dk_at dksX6_exchange_7 17 rfl rfl)
theorem dX6_exchange_185 : decode cX6_exchange 185 = .ok (.iconst 0, 1) := dk_3 (dk_at dksX6_exchange_7 20 rfl rfl)
theorem dX6_exchange_186 : decode cX6_exchange 186 = .ok (.ior, 1) := dk_128 (dk_at dksX6_exchange_7 21 rfl rfl)
theorem dX6_exchange_187 : decode cX6_exchange 187 = .ok (.istore 5, 2) := dk_54 5 (dk_at dksX6_exchange_7 22 rfl rfl)
theorem dX6_exchange_189 : decode cX6_exchange 189 = .ok (.iinc 6 1, 3) := dk_132 6 1 (dk_at dksX6_exchange_8 0 rfl rfl)
theorem dX6_exchange_192 : decode cX6_exchange 192 = .ok (.goto (-50), 3) := dk_167 255 206 (dk_at dksX6_exchange_8 3 rfl rfl)
theorem dX6_exchange_195 : decode cX6_exchange 195 = .ok (.aload_n 0, 1) := dk_42 (dk_at dksX6_exchange_8 6 rfl rfl)
theorem dX6_exchange_196 : decode cX6_exchange 196 = .ok (.getfield 7, 3) := dk_180 0 7 (dk_at dksX6_exchange_8 7 rfl rfl)
theorem dX6_exchange_199 : decode cX6_exchange 199 = .ok (.bipush 23, 2) := dk_16 23 (dk_at dksX6_exchange_8 10 rfl rfl)
theorem dX6_exchange_201 : decode cX6_exchange 201 = .ok (.iload 4, 2) := dk_21 4 (dk_at dksX6_exchange_8 12 rfl rfl)
theorem dX6_exchange_203 : decode cX6_exchange 203 = .ok (.iadd, 1) := dk_96 (dk_at dksX6_exchange_8 14 rfl rfl)
theorem dX6_exchange_204 : decode cX6_exchange 204 = .ok (.iload 5, 2) := dk_21 5 (dk_at dksX6_exchange_8 15 rfl rfl)
theorem dX6_exchange_206 : decode cX6_exchange 206 = .ok (.iastore, 1) := dk_79 (dk_at dksX6_exchange_8 17 rfl rfl)
theorem dX6_exchange_207 : decode cX6_exchange 207 = .ok (.iinc 4 1, 3) := dk_132 4 1 (dk_at dksX6_exchange_8 18 rfl rfl)
theorem dX6_exchange_210 : decode cX6_exchange 210 = .ok (.goto (-83), 3) := dk_167 255 173 (dk_at dksX6_exchange_8 21 rfl rfl)
theorem dX6_exchange_213 : decode cX6_exchange 213 = .ok (.iload_n 3, 1) := dk_29 (dk_at dksX6_exchange_9 0 rfl rfl)
theorem dX6_exchange_214 : decode cX6_exchange 214 = .ok (.ireturn, 1) := dk_172 (dk_at dksX6_exchange_9 1 rfl rfl)
abbrev cX6_exchanged : ByteArray := prog_10_method_66_code
def yX6_exchanged : MethodName := ⟨RX6, "exchanged", "(III)I"⟩
def dkwX6_exchanged_0 : List UInt8 := [26, 27, 160, 0, 7, 28, 167, 0, 13, 26, 28, 160, 0, 7, 27, 167, 0, 4, 26, 172]
abbrev dktX6_exchanged_0 : List UInt8 := dkwX6_exchanged_0 ++ []
theorem dksX6_exchanged_0 : cX6_exchanged.data.toList.drop 0 = dktX6_exchanged_0 := by decide +kernel
theorem dX6_exchanged_0 : decode cX6_exchanged 0 = .ok (.iload_n 0, 1) := dk_26 (dk_at dksX6_exchanged_0 0 rfl rfl)
theorem dX6_exchanged_1 : decode cX6_exchanged 1 = .ok (.iload_n 1, 1) := dk_27 (dk_at dksX6_exchanged_0 1 rfl rfl)
theorem dX6_exchanged_2 : decode cX6_exchanged 2 = .ok (.if_icmp .ne 7, 3) := dk_160 0 7 (dk_at dksX6_exchanged_0 2 rfl rfl)
theorem dX6_exchanged_5 : decode cX6_exchanged 5 = .ok (.iload_n 2, 1) := dk_28 (dk_at dksX6_exchanged_0 5 rfl rfl)
theorem dX6_exchanged_6 : decode cX6_exchanged 6 = .ok (.goto 13, 3) := dk_167 0 13 (dk_at dksX6_exchanged_0 6 rfl rfl)
theorem dX6_exchanged_9 : decode cX6_exchanged 9 = .ok (.iload_n 0, 1) := dk_26 (dk_at dksX6_exchanged_0 9 rfl rfl)
theorem dX6_exchanged_10 : decode cX6_exchanged 10 = .ok (.iload_n 2, 1) := dk_28 (dk_at dksX6_exchanged_0 10 rfl rfl)
theorem dX6_exchanged_11 : decode cX6_exchanged 11 = .ok (.if_icmp .ne 7, 3) := dk_160 0 7 (dk_at dksX6_exchanged_0 11 rfl rfl)
theorem dX6_exchanged_14 : decode cX6_exchanged 14 = .ok (.iload_n 1, 1) := dk_27 (dk_at dksX6_exchanged_0 14 rfl rfl)
theorem dX6_exchanged_15 : decode cX6_exchanged 15 = .ok (.goto 4, 3) := dk_167 0 4 (dk_at dksX6_exchanged_0 15 rfl rfl)
theorem dX6_exchanged_18 : decode cX6_exchanged 18 = .ok (.iload_n 0, 1) := dk_26 (dk_at dksX6_exchanged_0 18 rfl rfl)
theorem dX6_exchanged_19 : decode cX6_exchanged 19 = .ok (.ireturn, 1) := dk_172 (dk_at dksX6_exchanged_0 19 rfl rfl)
abbrev cX6_has : ByteArray := prog_10_method_20_code
def yX6_has : MethodName := ⟨RX6, "has", "(II)Z"⟩
def dkwX6_has_0 : List UInt8 := [26, 27, 122, 4, 126, 4, 160, 0, 7, 4, 167, 0, 4, 3, 172]
abbrev dktX6_has_0 : List UInt8 := dkwX6_has_0 ++ []
theorem dksX6_has_0 : cX6_has.data.toList.drop 0 = dktX6_has_0 := by decide +kernel
theorem dX6_has_0 : decode cX6_has 0 = .ok (.iload_n 0, 1) := dk_26 (dk_at dksX6_has_0 0 rfl rfl)
theorem dX6_has_1 : decode cX6_has 1 = .ok (.iload_n 1, 1) := dk_27 (dk_at dksX6_has_0 1 rfl rfl)
theorem dX6_has_2 : decode cX6_has 2 = .ok (.ishr, 1) := dk_122 (dk_at dksX6_has_0 2 rfl rfl)
theorem dX6_has_3 : decode cX6_has 3 = .ok (.iconst 1, 1) := dk_4 (dk_at dksX6_has_0 3 rfl rfl)
theorem dX6_has_4 : decode cX6_has 4 = .ok (.iand, 1) := dk_126 (dk_at dksX6_has_0 4 rfl rfl)
theorem dX6_has_5 : decode cX6_has 5 = .ok (.iconst 1, 1) := dk_4 (dk_at dksX6_has_0 5 rfl rfl)
theorem dX6_has_6 : decode cX6_has 6 = .ok (.if_icmp .ne 7, 3) := dk_160 0 7 (dk_at dksX6_has_0 6 rfl rfl)
theorem dX6_has_9 : decode cX6_has 9 = .ok (.iconst 1, 1) := dk_4 (dk_at dksX6_has_0 9 rfl rfl)
theorem dX6_has_10 : decode cX6_has 10 = .ok (.goto 4, 3) := dk_167 0 4 (dk_at dksX6_has_0 10 rfl rfl)
theorem dX6_has_13 : decode cX6_has 13 = .ok (.iconst 0, 1) := dk_3 (dk_at dksX6_has_0 13 rfl rfl)
theorem dX6_has_14 : decode cX6_has 14 = .ok (.ireturn, 1) := dk_172 (dk_at dksX6_has_0 14 rfl rfl)
abbrev cX6_mirror : ByteArray := prog_10_method_69_code
def yX6_mirror : MethodName := ⟨RX6, "mirror", "()I"⟩
def dkwX6_mirror_4 : List UInt8 := [172]
abbrev dktX6_mirror_4 : List UInt8 := dkwX6_mirror_4 ++ []
def dkwX6_mirror_3 : List UInt8 := [29, 104, 96, 28, 96, 182, 0, 239, 132, 3, 1, 167, 255, 228, 132, 2, 1, 167, 255, 185, 42, 182, 0, 230]
abbrev dktX6_mirror_3 : List UInt8 := dkwX6_mirror_3 ++ dktX6_mirror_4
def dkwX6_mirror_2 : List UInt8 := [28, 96, 182, 0, 239, 3, 62, 29, 28, 162, 0, 29, 42, 16, 23, 27, 28, 104, 96, 29, 96, 16, 23, 27]
abbrev dktX6_mirror_2 : List UInt8 := dkwX6_mirror_2 ++ dktX6_mirror_3
def dkwX6_mirror_1 : List UInt8 := [6, 28, 96, 6, 6, 27, 104, 96, 28, 96, 182, 0, 239, 42, 6, 27, 96, 28, 96, 6, 5, 27, 104, 96]
abbrev dktX6_mirror_1 : List UInt8 := dkwX6_mirror_1 ++ dktX6_mirror_2
def dkwX6_mirror_0 : List UInt8 := [42, 3, 181, 0, 55, 42, 182, 0, 214, 42, 180, 0, 7, 3, 46, 60, 3, 61, 28, 27, 162, 0, 72, 42]
abbrev dktX6_mirror_0 : List UInt8 := dkwX6_mirror_0 ++ dktX6_mirror_1
theorem dksX6_mirror_0 : cX6_mirror.data.toList.drop 0 = dktX6_mirror_0 := by decide +kernel
theorem dksX6_mirror_1 : cX6_mirror.data.toList.drop 24 = dktX6_mirror_1 := dk_seg dksX6_mirror_0 24 rfl rfl
theorem dksX6_mirror_2 : cX6_mirror.data.toList.drop 48 = dktX6_mirror_2 := dk_seg dksX6_mirror_1 24 rfl rfl
theorem dksX6_mirror_3 : cX6_mirror.data.toList.drop 72 = dktX6_mirror_3 := dk_seg dksX6_mirror_2 24 rfl rfl
theorem dksX6_mirror_4 : cX6_mirror.data.toList.drop 96 = dktX6_mirror_4 := dk_seg dksX6_mirror_3 24 rfl rfl
theorem dX6_mirror_0 : decode cX6_mirror 0 = .ok (.aload_n 0, 1) := dk_42 (dk_at dksX6_mirror_0 0 rfl rfl)
theorem dX6_mirror_1 : decode cX6_mirror 1 = .ok (.iconst 0, 1) := dk_3 (dk_at dksX6_mirror_0 1 rfl rfl)
theorem dX6_mirror_2 : decode cX6_mirror 2 = .ok (.putfield 55, 3) := dk_181 0 55 (dk_at dksX6_mirror_0 2 rfl rfl)
theorem dX6_mirror_5 : decode cX6_mirror 5 = .ok (.aload_n 0, 1) := dk_42 (dk_at dksX6_mirror_0 5 rfl rfl)
theorem dX6_mirror_6 : decode cX6_mirror 6 = .ok (.invokevirtual 214, 3) := dk_182 0 214 (dk_at dksX6_mirror_0 6 rfl rfl)
theorem dX6_mirror_9 : decode cX6_mirror 9 = .ok (.aload_n 0, 1) := dk_42 (dk_at dksX6_mirror_0 9 rfl rfl)
theorem dX6_mirror_10 : decode cX6_mirror 10 = .ok (.getfield 7, 3) := dk_180 0 7 (dk_at dksX6_mirror_0 10 rfl rfl)
theorem dX6_mirror_13 : decode cX6_mirror 13 = .ok (.iconst 0, 1) := dk_3 (dk_at dksX6_mirror_0 13 rfl rfl)
theorem dX6_mirror_14 : decode cX6_mirror 14 = .ok (.iaload, 1) := dk_46 (dk_at dksX6_mirror_0 14 rfl rfl)
theorem dX6_mirror_15 : decode cX6_mirror 15 = .ok (.istore_n 1, 1) := dk_60 (dk_at dksX6_mirror_0 15 rfl rfl)
theorem dX6_mirror_16 : decode cX6_mirror 16 = .ok (.iconst 0, 1) := dk_3 (dk_at dksX6_mirror_0 16 rfl rfl)
theorem dX6_mirror_17 : decode cX6_mirror 17 = .ok (.istore_n 2, 1) := dk_61 (dk_at dksX6_mirror_0 17 rfl rfl)
theorem dX6_mirror_18 : decode cX6_mirror 18 = .ok (.iload_n 2, 1) := dk_28 (dk_at dksX6_mirror_0 18 rfl rfl)
theorem dX6_mirror_19 : decode cX6_mirror 19 = .ok (.iload_n 1, 1) := dk_27 (dk_at dksX6_mirror_0 19 rfl rfl)
theorem dX6_mirror_20 : decode cX6_mirror 20 = .ok (.if_icmp .ge 72, 3) := dk_162 0 72 (dk_at dksX6_mirror_0 20 rfl rfl)
theorem dX6_mirror_23 : decode cX6_mirror 23 = .ok (.aload_n 0, 1) := dk_42 (dk_at dksX6_mirror_0 23 rfl rfl)
theorem dX6_mirror_24 : decode cX6_mirror 24 = .ok (.iconst 3, 1) := dk_6 (dk_at dksX6_mirror_1 0 rfl rfl)
theorem dX6_mirror_25 : decode cX6_mirror 25 = .ok (.iload_n 2, 1) := dk_28 (dk_at dksX6_mirror_1 1 rfl rfl)
theorem dX6_mirror_26 : decode cX6_mirror 26 = .ok (.iadd, 1) := dk_96 (dk_at dksX6_mirror_1 2 rfl rfl)
theorem dX6_mirror_27 : decode cX6_mirror 27 = .ok (.iconst 3, 1) := dk_6 (dk_at dksX6_mirror_1 3 rfl rfl)
theorem dX6_mirror_28 : decode cX6_mirror 28 = .ok (.iconst 3, 1) := dk_6 (dk_at dksX6_mirror_1 4 rfl rfl)
theorem dX6_mirror_29 : decode cX6_mirror 29 = .ok (.iload_n 1, 1) := dk_27 (dk_at dksX6_mirror_1 5 rfl rfl)
theorem dX6_mirror_30 : decode cX6_mirror 30 = .ok (.imul, 1) := dk_104 (dk_at dksX6_mirror_1 6 rfl rfl)
theorem dX6_mirror_31 : decode cX6_mirror 31 = .ok (.iadd, 1) := dk_96 (dk_at dksX6_mirror_1 7 rfl rfl)
theorem dX6_mirror_32 : decode cX6_mirror 32 = .ok (.iload_n 2, 1) := dk_28 (dk_at dksX6_mirror_1 8 rfl rfl)
theorem dX6_mirror_33 : decode cX6_mirror 33 = .ok (.iadd, 1) := dk_96 (dk_at dksX6_mirror_1 9 rfl rfl)
theorem dX6_mirror_34 : decode cX6_mirror 34 = .ok (.invokevirtual 239, 3) := dk_182 0 239 (dk_at dksX6_mirror_1 10 rfl rfl)
theorem dX6_mirror_37 : decode cX6_mirror 37 = .ok (.aload_n 0, 1) := dk_42 (dk_at dksX6_mirror_1 13 rfl rfl)
theorem dX6_mirror_38 : decode cX6_mirror 38 = .ok (.iconst 3, 1) := dk_6 (dk_at dksX6_mirror_1 14 rfl rfl)
theorem dX6_mirror_39 : decode cX6_mirror 39 = .ok (.iload_n 1, 1) := dk_27 (dk_at dksX6_mirror_1 15 rfl rfl)
theorem dX6_mirror_40 : decode cX6_mirror 40 = .ok (.iadd, 1) := dk_96 (dk_at dksX6_mirror_1 16 rfl rfl)
theorem dX6_mirror_41 : decode cX6_mirror 41 = .ok (.iload_n 2, 1) := dk_28 (dk_at dksX6_mirror_1 17 rfl rfl)
theorem dX6_mirror_42 : decode cX6_mirror 42 = .ok (.iadd, 1) := dk_96 (dk_at dksX6_mirror_1 18 rfl rfl)
theorem dX6_mirror_43 : decode cX6_mirror 43 = .ok (.iconst 3, 1) := dk_6 (dk_at dksX6_mirror_1 19 rfl rfl)
theorem dX6_mirror_44 : decode cX6_mirror 44 = .ok (.iconst 2, 1) := dk_5 (dk_at dksX6_mirror_1 20 rfl rfl)
theorem dX6_mirror_45 : decode cX6_mirror 45 = .ok (.iload_n 1, 1) := dk_27 (dk_at dksX6_mirror_1 21 rfl rfl)
theorem dX6_mirror_46 : decode cX6_mirror 46 = .ok (.imul, 1) := dk_104 (dk_at dksX6_mirror_1 22 rfl rfl)
theorem dX6_mirror_47 : decode cX6_mirror 47 = .ok (.iadd, 1) := dk_96 (dk_at dksX6_mirror_1 23 rfl rfl)
theorem dX6_mirror_48 : decode cX6_mirror 48 = .ok (.iload_n 2, 1) := dk_28 (dk_at dksX6_mirror_2 0 rfl rfl)
theorem dX6_mirror_49 : decode cX6_mirror 49 = .ok (.iadd, 1) := dk_96 (dk_at dksX6_mirror_2 1 rfl rfl)
theorem dX6_mirror_50 : decode cX6_mirror 50 = .ok (.invokevirtual 239, 3) := dk_182 0 239 (dk_at dksX6_mirror_2 2 rfl rfl)
theorem dX6_mirror_53 : decode cX6_mirror 53 = .ok (.iconst 0, 1) := dk_3 (dk_at dksX6_mirror_2 5 rfl rfl)
theorem dX6_mirror_54 : decode cX6_mirror 54 = .ok (.istore_n 3, 1) := dk_62 (dk_at dksX6_mirror_2 6 rfl rfl)
theorem dX6_mirror_55 : decode cX6_mirror 55 = .ok (.iload_n 3, 1) := dk_29 (dk_at dksX6_mirror_2 7 rfl rfl)
theorem dX6_mirror_56 : decode cX6_mirror 56 = .ok (.iload_n 2, 1) := dk_28 (dk_at dksX6_mirror_2 8 rfl rfl)
theorem dX6_mirror_57 : decode cX6_mirror 57 = .ok (.if_icmp .ge 29, 3) := dk_162 0 29 (dk_at dksX6_mirror_2 9 rfl rfl)
theorem dX6_mirror_60 : decode cX6_mirror 60 = .ok (.aload_n 0, 1) := dk_42 (dk_at dksX6_mirror_2 12 rfl rfl)
theorem dX6_mirror_61 : decode cX6_mirror 61 = .ok (.bipush 23, 2) := dk_16 23 (dk_at dksX6_mirror_2 13 rfl rfl)
theorem dX6_mirror_63 : decode cX6_mirror 63 = .ok (.iload_n 1, 1) := dk_27 (dk_at dksX6_mirror_2 15 rfl rfl)
theorem dX6_mirror_64 : decode cX6_mirror 64 = .ok (.iload_n 2, 1) := dk_28 (dk_at dksX6_mirror_2 16 rfl rfl)
theorem dX6_mirror_65 : decode cX6_mirror 65 = .ok (.imul, 1) := dk_104 (dk_at dksX6_mirror_2 17 rfl rfl)
theorem dX6_mirror_66 : decode cX6_mirror 66 = .ok (.iadd, 1) := dk_96 (dk_at dksX6_mirror_2 18 rfl rfl)
theorem dX6_mirror_67 : decode cX6_mirror 67 = .ok (.iload_n 3, 1) := dk_29 (dk_at dksX6_mirror_2 19 rfl rfl)
theorem dX6_mirror_68 : decode cX6_mirror 68 = .ok (.iadd, 1) := dk_96 (dk_at dksX6_mirror_2 20 rfl rfl)
theorem dX6_mirror_69 : decode cX6_mirror 69 = .ok (.bipush 23, 2) := dk_16 23 (dk_at dksX6_mirror_2 21 rfl rfl)
theorem dX6_mirror_71 : decode cX6_mirror 71 = .ok (.iload_n 1, 1) := dk_27 (dk_at dksX6_mirror_2 23 rfl rfl)
theorem dX6_mirror_72 : decode cX6_mirror 72 = .ok (.iload_n 3, 1) := dk_29 (dk_at dksX6_mirror_3 0 rfl rfl)
theorem dX6_mirror_73 : decode cX6_mirror 73 = .ok (.imul, 1) := dk_104 (dk_at dksX6_mirror_3 1 rfl rfl)
theorem dX6_mirror_74 : decode cX6_mirror 74 = .ok (.iadd, 1) := dk_96 (dk_at dksX6_mirror_3 2 rfl rfl)
theorem dX6_mirror_75 : decode cX6_mirror 75 = .ok (.iload_n 2, 1) := dk_28 (dk_at dksX6_mirror_3 3 rfl rfl)
theorem dX6_mirror_76 : decode cX6_mirror 76 = .ok (.iadd, 1) := dk_96 (dk_at dksX6_mirror_3 4 rfl rfl)
theorem dX6_mirror_77 : decode cX6_mirror 77 = .ok (.invokevirtual 239, 3) := dk_182 0 239 (dk_at dksX6_mirror_3 5 rfl rfl)
theorem dX6_mirror_80 : decode cX6_mirror 80 = .ok (.iinc 3 1, 3) := dk_132 3 1 (dk_at dksX6_mirror_3 8 rfl rfl)
theorem dX6_mirror_83 : decode cX6_mirror 83 = .ok (.goto (-28), 3) := dk_167 255 228 (dk_at dksX6_mirror_3 11 rfl rfl)
theorem dX6_mirror_86 : decode cX6_mirror 86 = .ok (.iinc 2 1, 3) := dk_132 2 1 (dk_at dksX6_mirror_3 14 rfl rfl)
theorem dX6_mirror_89 : decode cX6_mirror 89 = .ok (.goto (-71), 3) := dk_167 255 185 (dk_at dksX6_mirror_3 17 rfl rfl)
theorem dX6_mirror_92 : decode cX6_mirror 92 = .ok (.aload_n 0, 1) := dk_42 (dk_at dksX6_mirror_3 20 rfl rfl)
theorem dX6_mirror_93 : decode cX6_mirror 93 = .ok (.invokevirtual 230, 3) := dk_182 0 230 (dk_at dksX6_mirror_3 21 rfl rfl)
theorem dX6_mirror_96 : decode cX6_mirror 96 = .ok (.ireturn, 1) := dk_172 (dk_at dksX6_mirror_4 0 rfl rfl)
abbrev cX6_swaps : ByteArray := prog_10_method_68_code
def yX6_swaps : MethodName := ⟨RX6, "swaps", "(II)V"⟩
def dkwX6_swaps_1 : List UInt8 := [29, 79, 177]
abbrev dktX6_swaps_1 : List UInt8 := dkwX6_swaps_1 ++ []
def dkwX6_swaps_0 : List UInt8 := [42, 180, 0, 7, 27, 46, 62, 42, 180, 0, 7, 27, 42, 180, 0, 7, 28, 46, 79, 42, 180, 0, 7, 28]
abbrev dktX6_swaps_0 : List UInt8 := dkwX6_swaps_0 ++ dktX6_swaps_1
theorem dksX6_swaps_0 : cX6_swaps.data.toList.drop 0 = dktX6_swaps_0 := by decide +kernel
theorem dksX6_swaps_1 : cX6_swaps.data.toList.drop 24 = dktX6_swaps_1 := dk_seg dksX6_swaps_0 24 rfl rfl
theorem dX6_swaps_0 : decode cX6_swaps 0 = .ok (.aload_n 0, 1) := dk_42 (dk_at dksX6_swaps_0 0 rfl rfl)
theorem dX6_swaps_1 : decode cX6_swaps 1 = .ok (.getfield 7, 3) := dk_180 0 7 (dk_at dksX6_swaps_0 1 rfl rfl)
theorem dX6_swaps_4 : decode cX6_swaps 4 = .ok (.iload_n 1, 1) := dk_27 (dk_at dksX6_swaps_0 4 rfl rfl)
theorem dX6_swaps_5 : decode cX6_swaps 5 = .ok (.iaload, 1) := dk_46 (dk_at dksX6_swaps_0 5 rfl rfl)
theorem dX6_swaps_6 : decode cX6_swaps 6 = .ok (.istore_n 3, 1) := dk_62 (dk_at dksX6_swaps_0 6 rfl rfl)
theorem dX6_swaps_7 : decode cX6_swaps 7 = .ok (.aload_n 0, 1) := dk_42 (dk_at dksX6_swaps_0 7 rfl rfl)
theorem dX6_swaps_8 : decode cX6_swaps 8 = .ok (.getfield 7, 3) := dk_180 0 7 (dk_at dksX6_swaps_0 8 rfl rfl)
theorem dX6_swaps_11 : decode cX6_swaps 11 = .ok (.iload_n 1, 1) := dk_27 (dk_at dksX6_swaps_0 11 rfl rfl)
theorem dX6_swaps_12 : decode cX6_swaps 12 = .ok (.aload_n 0, 1) := dk_42 (dk_at dksX6_swaps_0 12 rfl rfl)
theorem dX6_swaps_13 : decode cX6_swaps 13 = .ok (.getfield 7, 3) := dk_180 0 7 (dk_at dksX6_swaps_0 13 rfl rfl)
theorem dX6_swaps_16 : decode cX6_swaps 16 = .ok (.iload_n 2, 1) := dk_28 (dk_at dksX6_swaps_0 16 rfl rfl)
theorem dX6_swaps_17 : decode cX6_swaps 17 = .ok (.iaload, 1) := dk_46 (dk_at dksX6_swaps_0 17 rfl rfl)
theorem dX6_swaps_18 : decode cX6_swaps 18 = .ok (.iastore, 1) := dk_79 (dk_at dksX6_swaps_0 18 rfl rfl)
theorem dX6_swaps_19 : decode cX6_swaps 19 = .ok (.aload_n 0, 1) := dk_42 (dk_at dksX6_swaps_0 19 rfl rfl)
theorem dX6_swaps_20 : decode cX6_swaps 20 = .ok (.getfield 7, 3) := dk_180 0 7 (dk_at dksX6_swaps_0 20 rfl rfl)
theorem dX6_swaps_23 : decode cX6_swaps 23 = .ok (.iload_n 2, 1) := dk_28 (dk_at dksX6_swaps_0 23 rfl rfl)
theorem dX6_swaps_24 : decode cX6_swaps 24 = .ok (.iload_n 3, 1) := dk_29 (dk_at dksX6_swaps_1 0 rfl rfl)
theorem dX6_swaps_25 : decode cX6_swaps 25 = .ok (.iastore, 1) := dk_79 (dk_at dksX6_swaps_1 1 rfl rfl)
theorem dX6_swaps_26 : decode cX6_swaps 26 = .ok (.return_, 1) := dk_177 (dk_at dksX6_swaps_1 2 rfl rfl)
abbrev cX6_side : ByteArray := prog_10_method_70_code
def yX6_side : MethodName := ⟨RX6, "side", "()I"⟩
def dkwX6_side_0 : List UInt8 := [42, 42, 180, 0, 7, 3, 46, 182, 0, 242, 172]
abbrev dktX6_side_0 : List UInt8 := dkwX6_side_0 ++ []
theorem dksX6_side_0 : cX6_side.data.toList.drop 0 = dktX6_side_0 := by decide +kernel
theorem dX6_side_0 : decode cX6_side 0 = .ok (.aload_n 0, 1) := dk_42 (dk_at dksX6_side_0 0 rfl rfl)
theorem dX6_side_1 : decode cX6_side 1 = .ok (.aload_n 0, 1) := dk_42 (dk_at dksX6_side_0 1 rfl rfl)
theorem dX6_side_2 : decode cX6_side 2 = .ok (.getfield 7, 3) := dk_180 0 7 (dk_at dksX6_side_0 2 rfl rfl)
theorem dX6_side_5 : decode cX6_side 5 = .ok (.iconst 0, 1) := dk_3 (dk_at dksX6_side_0 5 rfl rfl)
theorem dX6_side_6 : decode cX6_side 6 = .ok (.iaload, 1) := dk_46 (dk_at dksX6_side_0 6 rfl rfl)
theorem dX6_side_7 : decode cX6_side 7 = .ok (.invokevirtual 242, 3) := dk_182 0 242 (dk_at dksX6_side_0 7 rfl rfl)
theorem dX6_side_10 : decode cX6_side 10 = .ok (.ireturn, 1) := dk_172 (dk_at dksX6_side_0 10 rfl rfl)
abbrev cX6_told : ByteArray := prog_10_method_6_code
def yX6_told : MethodName := ⟨RX6, "told", "(I)I"⟩
def dkwX6_told_0 : List UInt8 := [42, 3, 181, 0, 55, 27, 172]
abbrev dktX6_told_0 : List UInt8 := dkwX6_told_0 ++ []
theorem dksX6_told_0 : cX6_told.data.toList.drop 0 = dktX6_told_0 := by decide +kernel
theorem dX6_told_0 : decode cX6_told 0 = .ok (.aload_n 0, 1) := dk_42 (dk_at dksX6_told_0 0 rfl rfl)
theorem dX6_told_1 : decode cX6_told 1 = .ok (.iconst 0, 1) := dk_3 (dk_at dksX6_told_0 1 rfl rfl)
theorem dX6_told_2 : decode cX6_told 2 = .ok (.putfield 55, 3) := dk_181 0 55 (dk_at dksX6_told_0 2 rfl rfl)
theorem dX6_told_5 : decode cX6_told 5 = .ok (.iload_n 1, 1) := dk_27 (dk_at dksX6_told_0 5 rfl rfl)
theorem dX6_told_6 : decode cX6_told 6 = .ok (.ireturn, 1) := dk_172 (dk_at dksX6_told_0 6 rfl rfl)
abbrev cX6_letterCount : ByteArray := prog_10_method_71_code
def yX6_letterCount : MethodName := ⟨RX6, "letterCount", "()I"⟩
def dkwX6_letterCount_0 : List UInt8 := [42, 42, 180, 0, 7, 4, 46, 182, 0, 242, 172]
abbrev dktX6_letterCount_0 : List UInt8 := dkwX6_letterCount_0 ++ []
theorem dksX6_letterCount_0 : cX6_letterCount.data.toList.drop 0 = dktX6_letterCount_0 := by decide +kernel
theorem dX6_letterCount_0 : decode cX6_letterCount 0 = .ok (.aload_n 0, 1) := dk_42 (dk_at dksX6_letterCount_0 0 rfl rfl)
theorem dX6_letterCount_1 : decode cX6_letterCount 1 = .ok (.aload_n 0, 1) := dk_42 (dk_at dksX6_letterCount_0 1 rfl rfl)
theorem dX6_letterCount_2 : decode cX6_letterCount 2 = .ok (.getfield 7, 3) := dk_180 0 7 (dk_at dksX6_letterCount_0 2 rfl rfl)
theorem dX6_letterCount_5 : decode cX6_letterCount 5 = .ok (.iconst 1, 1) := dk_4 (dk_at dksX6_letterCount_0 5 rfl rfl)
theorem dX6_letterCount_6 : decode cX6_letterCount 6 = .ok (.iaload, 1) := dk_46 (dk_at dksX6_letterCount_0 6 rfl rfl)
theorem dX6_letterCount_7 : decode cX6_letterCount 7 = .ok (.invokevirtual 242, 3) := dk_182 0 242 (dk_at dksX6_letterCount_0 7 rfl rfl)
theorem dX6_letterCount_10 : decode cX6_letterCount 10 = .ok (.ireturn, 1) := dk_172 (dk_at dksX6_letterCount_0 10 rfl rfl)
abbrev cX6_lineCount : ByteArray := prog_10_method_72_code
def yX6_lineCount : MethodName := ⟨RX6, "lineCount", "()I"⟩
def dkwX6_lineCount_0 : List UInt8 := [42, 42, 182, 0, 77, 182, 0, 242, 172]
abbrev dktX6_lineCount_0 : List UInt8 := dkwX6_lineCount_0 ++ []
theorem dksX6_lineCount_0 : cX6_lineCount.data.toList.drop 0 = dktX6_lineCount_0 := by decide +kernel
theorem dX6_lineCount_0 : decode cX6_lineCount 0 = .ok (.aload_n 0, 1) := dk_42 (dk_at dksX6_lineCount_0 0 rfl rfl)
theorem dX6_lineCount_1 : decode cX6_lineCount 1 = .ok (.aload_n 0, 1) := dk_42 (dk_at dksX6_lineCount_0 1 rfl rfl)
theorem dX6_lineCount_2 : decode cX6_lineCount 2 = .ok (.invokevirtual 77, 3) := dk_182 0 77 (dk_at dksX6_lineCount_0 2 rfl rfl)
theorem dX6_lineCount_5 : decode cX6_lineCount 5 = .ok (.invokevirtual 242, 3) := dk_182 0 242 (dk_at dksX6_lineCount_0 5 rfl rfl)
theorem dX6_lineCount_8 : decode cX6_lineCount 8 = .ok (.ireturn, 1) := dk_172 (dk_at dksX6_lineCount_0 8 rfl rfl)
abbrev cX6_lines : ByteArray := prog_10_method_11_code
def yX6_lines : MethodName := ⟨RX6, "lines", "()I"⟩
def dkwX6_lines_0 : List UInt8 := [5, 42, 180, 0, 7, 3, 46, 104, 5, 42, 180, 0, 7, 5, 46, 104, 96, 172]
abbrev dktX6_lines_0 : List UInt8 := dkwX6_lines_0 ++ []
theorem dksX6_lines_0 : cX6_lines.data.toList.drop 0 = dktX6_lines_0 := by decide +kernel
theorem dX6_lines_0 : decode cX6_lines 0 = .ok (.iconst 2, 1) := dk_5 (dk_at dksX6_lines_0 0 rfl rfl)
theorem dX6_lines_1 : decode cX6_lines 1 = .ok (.aload_n 0, 1) := dk_42 (dk_at dksX6_lines_0 1 rfl rfl)
theorem dX6_lines_2 : decode cX6_lines 2 = .ok (.getfield 7, 3) := dk_180 0 7 (dk_at dksX6_lines_0 2 rfl rfl)
theorem dX6_lines_5 : decode cX6_lines 5 = .ok (.iconst 0, 1) := dk_3 (dk_at dksX6_lines_0 5 rfl rfl)
theorem dX6_lines_6 : decode cX6_lines 6 = .ok (.iaload, 1) := dk_46 (dk_at dksX6_lines_0 6 rfl rfl)
theorem dX6_lines_7 : decode cX6_lines 7 = .ok (.imul, 1) := dk_104 (dk_at dksX6_lines_0 7 rfl rfl)
theorem dX6_lines_8 : decode cX6_lines 8 = .ok (.iconst 2, 1) := dk_5 (dk_at dksX6_lines_0 8 rfl rfl)
theorem dX6_lines_9 : decode cX6_lines 9 = .ok (.aload_n 0, 1) := dk_42 (dk_at dksX6_lines_0 9 rfl rfl)
theorem dX6_lines_10 : decode cX6_lines 10 = .ok (.getfield 7, 3) := dk_180 0 7 (dk_at dksX6_lines_0 10 rfl rfl)
theorem dX6_lines_13 : decode cX6_lines 13 = .ok (.iconst 2, 1) := dk_5 (dk_at dksX6_lines_0 13 rfl rfl)
theorem dX6_lines_14 : decode cX6_lines 14 = .ok (.iaload, 1) := dk_46 (dk_at dksX6_lines_0 14 rfl rfl)
theorem dX6_lines_15 : decode cX6_lines 15 = .ok (.imul, 1) := dk_104 (dk_at dksX6_lines_0 15 rfl rfl)
theorem dX6_lines_16 : decode cX6_lines 16 = .ok (.iadd, 1) := dk_96 (dk_at dksX6_lines_0 16 rfl rfl)
theorem dX6_lines_17 : decode cX6_lines 17 = .ok (.ireturn, 1) := dk_172 (dk_at dksX6_lines_0 17 rfl rfl)
abbrev cX6_tellingCount : ByteArray := prog_10_method_73_code
def yX6_tellingCount : MethodName := ⟨RX6, "tellingCount", "()I"⟩
def dkwX6_tellingCount_0 : List UInt8 := [42, 42, 182, 0, 230, 182, 0, 242, 172]
abbrev dktX6_tellingCount_0 : List UInt8 := dkwX6_tellingCount_0 ++ []
theorem dksX6_tellingCount_0 : cX6_tellingCount.data.toList.drop 0 = dktX6_tellingCount_0 := by decide +kernel
theorem dX6_tellingCount_0 : decode cX6_tellingCount 0 = .ok (.aload_n 0, 1) := dk_42 (dk_at dksX6_tellingCount_0 0 rfl rfl)
theorem dX6_tellingCount_1 : decode cX6_tellingCount 1 = .ok (.aload_n 0, 1) := dk_42 (dk_at dksX6_tellingCount_0 1 rfl rfl)
theorem dX6_tellingCount_2 : decode cX6_tellingCount 2 = .ok (.invokevirtual 230, 3) := dk_182 0 230 (dk_at dksX6_tellingCount_0 2 rfl rfl)
theorem dX6_tellingCount_5 : decode cX6_tellingCount 5 = .ok (.invokevirtual 242, 3) := dk_182 0 242 (dk_at dksX6_tellingCount_0 5 rfl rfl)
theorem dX6_tellingCount_8 : decode cX6_tellingCount 8 = .ok (.ireturn, 1) := dk_172 (dk_at dksX6_tellingCount_0 8 rfl rfl)
abbrev cX6_tellingAt : ByteArray := prog_10_method_74_code
def yX6_tellingAt : MethodName := ⟨RX6, "tellingAt", "(I)I"⟩
def dkwX6_tellingAt_1 : List UInt8 := [182, 0, 217, 167, 0, 4, 3, 172]
abbrev dktX6_tellingAt_1 : List UInt8 := dkwX6_tellingAt_1 ++ []
def dkwX6_tellingAt_0 : List UInt8 := [42, 42, 27, 182, 0, 220, 4, 4, 182, 0, 210, 153, 0, 18, 42, 42, 180, 0, 7, 6, 27, 96, 46]
abbrev dktX6_tellingAt_0 : List UInt8 := dkwX6_tellingAt_0 ++ dktX6_tellingAt_1
theorem dksX6_tellingAt_0 : cX6_tellingAt.data.toList.drop 0 = dktX6_tellingAt_0 := by decide +kernel
theorem dksX6_tellingAt_1 : cX6_tellingAt.data.toList.drop 23 = dktX6_tellingAt_1 := dk_seg dksX6_tellingAt_0 23 rfl rfl
theorem dX6_tellingAt_0 : decode cX6_tellingAt 0 = .ok (.aload_n 0, 1) := dk_42 (dk_at dksX6_tellingAt_0 0 rfl rfl)
theorem dX6_tellingAt_1 : decode cX6_tellingAt 1 = .ok (.aload_n 0, 1) := dk_42 (dk_at dksX6_tellingAt_0 1 rfl rfl)
theorem dX6_tellingAt_2 : decode cX6_tellingAt 2 = .ok (.iload_n 1, 1) := dk_27 (dk_at dksX6_tellingAt_0 2 rfl rfl)
theorem dX6_tellingAt_3 : decode cX6_tellingAt 3 = .ok (.invokevirtual 220, 3) := dk_182 0 220 (dk_at dksX6_tellingAt_0 3 rfl rfl)
theorem dX6_tellingAt_6 : decode cX6_tellingAt 6 = .ok (.iconst 1, 1) := dk_4 (dk_at dksX6_tellingAt_0 6 rfl rfl)
theorem dX6_tellingAt_7 : decode cX6_tellingAt 7 = .ok (.iconst 1, 1) := dk_4 (dk_at dksX6_tellingAt_0 7 rfl rfl)
theorem dX6_tellingAt_8 : decode cX6_tellingAt 8 = .ok (.invokevirtual 210, 3) := dk_182 0 210 (dk_at dksX6_tellingAt_0 8 rfl rfl)
theorem dX6_tellingAt_11 : decode cX6_tellingAt 11 = .ok (.ifCond .eq 18, 3) := dk_153 0 18 (dk_at dksX6_tellingAt_0 11 rfl rfl)
theorem dX6_tellingAt_14 : decode cX6_tellingAt 14 = .ok (.aload_n 0, 1) := dk_42 (dk_at dksX6_tellingAt_0 14 rfl rfl)
theorem dX6_tellingAt_15 : decode cX6_tellingAt 15 = .ok (.aload_n 0, 1) := dk_42 (dk_at dksX6_tellingAt_0 15 rfl rfl)
theorem dX6_tellingAt_16 : decode cX6_tellingAt 16 = .ok (.getfield 7, 3) := dk_180 0 7 (dk_at dksX6_tellingAt_0 16 rfl rfl)
theorem dX6_tellingAt_19 : decode cX6_tellingAt 19 = .ok (.iconst 3, 1) := dk_6 (dk_at dksX6_tellingAt_0 19 rfl rfl)
theorem dX6_tellingAt_20 : decode cX6_tellingAt 20 = .ok (.iload_n 1, 1) := dk_27 (dk_at dksX6_tellingAt_0 20 rfl rfl)
theorem dX6_tellingAt_21 : decode cX6_tellingAt 21 = .ok (.iadd, 1) := dk_96 (dk_at dksX6_tellingAt_0 21 rfl rfl)
theorem dX6_tellingAt_22 : decode cX6_tellingAt 22 = .ok (.iaload, 1) := dk_46 (dk_at dksX6_tellingAt_0 22 rfl rfl)
theorem dX6_tellingAt_23 : decode cX6_tellingAt 23 = .ok (.invokevirtual 217, 3) := dk_182 0 217 (dk_at dksX6_tellingAt_1 0 rfl rfl)
theorem dX6_tellingAt_26 : decode cX6_tellingAt 26 = .ok (.goto 4, 3) := dk_167 0 4 (dk_at dksX6_tellingAt_1 3 rfl rfl)
theorem dX6_tellingAt_29 : decode cX6_tellingAt 29 = .ok (.iconst 0, 1) := dk_3 (dk_at dksX6_tellingAt_1 6 rfl rfl)
theorem dX6_tellingAt_30 : decode cX6_tellingAt 30 = .ok (.ireturn, 1) := dk_172 (dk_at dksX6_tellingAt_1 7 rfl rfl)
abbrev cX6_isSecond : ByteArray := prog_10_method_75_code
def yX6_isSecond : MethodName := ⟨RX6, "isSecond", "(I)Z"⟩
def dkwX6_isSecond_1 : List UInt8 := [158, 0, 20, 42, 180, 0, 7, 6, 27, 96, 46, 5, 112, 154, 0, 7, 4, 167, 0, 4, 3, 172]
abbrev dktX6_isSecond_1 : List UInt8 := dkwX6_isSecond_1 ++ []
def dkwX6_isSecond_0 : List UInt8 := [42, 42, 27, 182, 0, 220, 4, 4, 182, 0, 210, 153, 0, 31, 42, 180, 0, 7, 6, 27, 96, 46]
abbrev dktX6_isSecond_0 : List UInt8 := dkwX6_isSecond_0 ++ dktX6_isSecond_1
theorem dksX6_isSecond_0 : cX6_isSecond.data.toList.drop 0 = dktX6_isSecond_0 := by decide +kernel
theorem dksX6_isSecond_1 : cX6_isSecond.data.toList.drop 22 = dktX6_isSecond_1 := dk_seg dksX6_isSecond_0 22 rfl rfl
theorem dX6_isSecond_0 : decode cX6_isSecond 0 = .ok (.aload_n 0, 1) := dk_42 (dk_at dksX6_isSecond_0 0 rfl rfl)
theorem dX6_isSecond_1 : decode cX6_isSecond 1 = .ok (.aload_n 0, 1) := dk_42 (dk_at dksX6_isSecond_0 1 rfl rfl)
theorem dX6_isSecond_2 : decode cX6_isSecond 2 = .ok (.iload_n 1, 1) := dk_27 (dk_at dksX6_isSecond_0 2 rfl rfl)
theorem dX6_isSecond_3 : decode cX6_isSecond 3 = .ok (.invokevirtual 220, 3) := dk_182 0 220 (dk_at dksX6_isSecond_0 3 rfl rfl)
theorem dX6_isSecond_6 : decode cX6_isSecond 6 = .ok (.iconst 1, 1) := dk_4 (dk_at dksX6_isSecond_0 6 rfl rfl)
theorem dX6_isSecond_7 : decode cX6_isSecond 7 = .ok (.iconst 1, 1) := dk_4 (dk_at dksX6_isSecond_0 7 rfl rfl)
theorem dX6_isSecond_8 : decode cX6_isSecond 8 = .ok (.invokevirtual 210, 3) := dk_182 0 210 (dk_at dksX6_isSecond_0 8 rfl rfl)
theorem dX6_isSecond_11 : decode cX6_isSecond 11 = .ok (.ifCond .eq 31, 3) := dk_153 0 31 (dk_at dksX6_isSecond_0 11 rfl rfl)
theorem dX6_isSecond_14 : decode cX6_isSecond 14 = .ok (.aload_n 0, 1) := dk_42 (dk_at dksX6_isSecond_0 14 rfl rfl)
theorem dX6_isSecond_15 : decode cX6_isSecond 15 = .ok (.getfield 7, 3) := dk_180 0 7 (dk_at dksX6_isSecond_0 15 rfl rfl)
theorem dX6_isSecond_18 : decode cX6_isSecond 18 = .ok (.iconst 3, 1) := dk_6 (dk_at dksX6_isSecond_0 18 rfl rfl)
theorem dX6_isSecond_19 : decode cX6_isSecond 19 = .ok (.iload_n 1, 1) := dk_27 (dk_at dksX6_isSecond_0 19 rfl rfl)
theorem dX6_isSecond_20 : decode cX6_isSecond 20 = .ok (.iadd, 1) := dk_96 (dk_at dksX6_isSecond_0 20 rfl rfl)
theorem dX6_isSecond_21 : decode cX6_isSecond 21 = .ok (.iaload, 1) := dk_46 (dk_at dksX6_isSecond_0 21 rfl rfl)
theorem dX6_isSecond_22 : decode cX6_isSecond 22 = .ok (.ifCond .le 20, 3) := dk_158 0 20 (dk_at dksX6_isSecond_1 0 rfl rfl)
theorem dX6_isSecond_25 : decode cX6_isSecond 25 = .ok (.aload_n 0, 1) := dk_42 (dk_at dksX6_isSecond_1 3 rfl rfl)
theorem dX6_isSecond_26 : decode cX6_isSecond 26 = .ok (.getfield 7, 3) := dk_180 0 7 (dk_at dksX6_isSecond_1 4 rfl rfl)
theorem dX6_isSecond_29 : decode cX6_isSecond 29 = .ok (.iconst 3, 1) := dk_6 (dk_at dksX6_isSecond_1 7 rfl rfl)
theorem dX6_isSecond_30 : decode cX6_isSecond 30 = .ok (.iload_n 1, 1) := dk_27 (dk_at dksX6_isSecond_1 8 rfl rfl)
theorem dX6_isSecond_31 : decode cX6_isSecond 31 = .ok (.iadd, 1) := dk_96 (dk_at dksX6_isSecond_1 9 rfl rfl)
theorem dX6_isSecond_32 : decode cX6_isSecond 32 = .ok (.iaload, 1) := dk_46 (dk_at dksX6_isSecond_1 10 rfl rfl)
theorem dX6_isSecond_33 : decode cX6_isSecond 33 = .ok (.iconst 2, 1) := dk_5 (dk_at dksX6_isSecond_1 11 rfl rfl)
theorem dX6_isSecond_34 : decode cX6_isSecond 34 = .ok (.irem, 1) := dk_112 (dk_at dksX6_isSecond_1 12 rfl rfl)
theorem dX6_isSecond_35 : decode cX6_isSecond 35 = .ok (.ifCond .ne 7, 3) := dk_154 0 7 (dk_at dksX6_isSecond_1 13 rfl rfl)
theorem dX6_isSecond_38 : decode cX6_isSecond 38 = .ok (.iconst 1, 1) := dk_4 (dk_at dksX6_isSecond_1 16 rfl rfl)
theorem dX6_isSecond_39 : decode cX6_isSecond 39 = .ok (.goto 4, 3) := dk_167 0 4 (dk_at dksX6_isSecond_1 17 rfl rfl)
theorem dX6_isSecond_42 : decode cX6_isSecond 42 = .ok (.iconst 0, 1) := dk_3 (dk_at dksX6_isSecond_1 20 rfl rfl)
theorem dX6_isSecond_43 : decode cX6_isSecond 43 = .ok (.ireturn, 1) := dk_172 (dk_at dksX6_isSecond_1 21 rfl rfl)
abbrev cX6_cellOf : ByteArray := prog_10_method_77_code
def yX6_cellOf : MethodName := ⟨RX6, "cellOf", "(II)I"⟩
def dkwX6_cellOf_1 : List UInt8 := [3, 172]
abbrev dktX6_cellOf_1 : List UInt8 := dkwX6_cellOf_1 ++ []
def dkwX6_cellOf_0 : List UInt8 := [42, 42, 27, 28, 182, 0, 248, 4, 4, 182, 0, 210, 153, 0, 12, 42, 27, 28, 182, 0, 99, 167, 0, 4]
abbrev dktX6_cellOf_0 : List UInt8 := dkwX6_cellOf_0 ++ dktX6_cellOf_1
theorem dksX6_cellOf_0 : cX6_cellOf.data.toList.drop 0 = dktX6_cellOf_0 := by decide +kernel
theorem dksX6_cellOf_1 : cX6_cellOf.data.toList.drop 24 = dktX6_cellOf_1 := dk_seg dksX6_cellOf_0 24 rfl rfl
theorem dX6_cellOf_0 : decode cX6_cellOf 0 = .ok (.aload_n 0, 1) := dk_42 (dk_at dksX6_cellOf_0 0 rfl rfl)
theorem dX6_cellOf_1 : decode cX6_cellOf 1 = .ok (.aload_n 0, 1) := dk_42 (dk_at dksX6_cellOf_0 1 rfl rfl)
theorem dX6_cellOf_2 : decode cX6_cellOf 2 = .ok (.iload_n 1, 1) := dk_27 (dk_at dksX6_cellOf_0 2 rfl rfl)
theorem dX6_cellOf_3 : decode cX6_cellOf 3 = .ok (.iload_n 2, 1) := dk_28 (dk_at dksX6_cellOf_0 3 rfl rfl)
theorem dX6_cellOf_4 : decode cX6_cellOf 4 = .ok (.invokevirtual 248, 3) := dk_182 0 248 (dk_at dksX6_cellOf_0 4 rfl rfl)
theorem dX6_cellOf_7 : decode cX6_cellOf 7 = .ok (.iconst 1, 1) := dk_4 (dk_at dksX6_cellOf_0 7 rfl rfl)
theorem dX6_cellOf_8 : decode cX6_cellOf 8 = .ok (.iconst 1, 1) := dk_4 (dk_at dksX6_cellOf_0 8 rfl rfl)
theorem dX6_cellOf_9 : decode cX6_cellOf 9 = .ok (.invokevirtual 210, 3) := dk_182 0 210 (dk_at dksX6_cellOf_0 9 rfl rfl)
theorem dX6_cellOf_12 : decode cX6_cellOf 12 = .ok (.ifCond .eq 12, 3) := dk_153 0 12 (dk_at dksX6_cellOf_0 12 rfl rfl)
theorem dX6_cellOf_15 : decode cX6_cellOf 15 = .ok (.aload_n 0, 1) := dk_42 (dk_at dksX6_cellOf_0 15 rfl rfl)
theorem dX6_cellOf_16 : decode cX6_cellOf 16 = .ok (.iload_n 1, 1) := dk_27 (dk_at dksX6_cellOf_0 16 rfl rfl)
theorem dX6_cellOf_17 : decode cX6_cellOf 17 = .ok (.iload_n 2, 1) := dk_28 (dk_at dksX6_cellOf_0 17 rfl rfl)
theorem dX6_cellOf_18 : decode cX6_cellOf 18 = .ok (.invokevirtual 99, 3) := dk_182 0 99 (dk_at dksX6_cellOf_0 18 rfl rfl)
theorem dX6_cellOf_21 : decode cX6_cellOf 21 = .ok (.goto 4, 3) := dk_167 0 4 (dk_at dksX6_cellOf_0 21 rfl rfl)
theorem dX6_cellOf_24 : decode cX6_cellOf 24 = .ok (.iconst 0, 1) := dk_3 (dk_at dksX6_cellOf_1 0 rfl rfl)
theorem dX6_cellOf_25 : decode cX6_cellOf 25 = .ok (.ireturn, 1) := dk_172 (dk_at dksX6_cellOf_1 1 rfl rfl)
abbrev cX6_isPlace : ByteArray := prog_10_method_76_code
def yX6_isPlace : MethodName := ⟨RX6, "isPlace", "(II)Z"⟩
def dkwX6_isPlace_1 : List UInt8 := [4, 167, 0, 4, 3, 172]
abbrev dktX6_isPlace_1 : List UInt8 := dkwX6_isPlace_1 ++ []
def dkwX6_isPlace_0 : List UInt8 := [42, 27, 182, 0, 245, 153, 0, 23, 28, 3, 42, 180, 0, 7, 3, 46, 4, 100, 184, 0, 70, 153, 0, 7]
abbrev dktX6_isPlace_0 : List UInt8 := dkwX6_isPlace_0 ++ dktX6_isPlace_1
theorem dksX6_isPlace_0 : cX6_isPlace.data.toList.drop 0 = dktX6_isPlace_0 := by decide +kernel
theorem dksX6_isPlace_1 : cX6_isPlace.data.toList.drop 24 = dktX6_isPlace_1 := dk_seg dksX6_isPlace_0 24 rfl rfl
theorem dX6_isPlace_0 : decode cX6_isPlace 0 = .ok (.aload_n 0, 1) := dk_42 (dk_at dksX6_isPlace_0 0 rfl rfl)
theorem dX6_isPlace_1 : decode cX6_isPlace 1 = .ok (.iload_n 1, 1) := dk_27 (dk_at dksX6_isPlace_0 1 rfl rfl)
theorem dX6_isPlace_2 : decode cX6_isPlace 2 = .ok (.invokevirtual 245, 3) := dk_182 0 245 (dk_at dksX6_isPlace_0 2 rfl rfl)
theorem dX6_isPlace_5 : decode cX6_isPlace 5 = .ok (.ifCond .eq 23, 3) := dk_153 0 23 (dk_at dksX6_isPlace_0 5 rfl rfl)
theorem dX6_isPlace_8 : decode cX6_isPlace 8 = .ok (.iload_n 2, 1) := dk_28 (dk_at dksX6_isPlace_0 8 rfl rfl)
theorem dX6_isPlace_9 : decode cX6_isPlace 9 = .ok (.iconst 0, 1) := dk_3 (dk_at dksX6_isPlace_0 9 rfl rfl)
theorem dX6_isPlace_10 : decode cX6_isPlace 10 = .ok (.aload_n 0, 1) := dk_42 (dk_at dksX6_isPlace_0 10 rfl rfl)
theorem dX6_isPlace_11 : decode cX6_isPlace 11 = .ok (.getfield 7, 3) := dk_180 0 7 (dk_at dksX6_isPlace_0 11 rfl rfl)
theorem dX6_isPlace_14 : decode cX6_isPlace 14 = .ok (.iconst 0, 1) := dk_3 (dk_at dksX6_isPlace_0 14 rfl rfl)
theorem dX6_isPlace_15 : decode cX6_isPlace 15 = .ok (.iaload, 1) := dk_46 (dk_at dksX6_isPlace_0 15 rfl rfl)
theorem dX6_isPlace_16 : decode cX6_isPlace 16 = .ok (.iconst 1, 1) := dk_4 (dk_at dksX6_isPlace_0 16 rfl rfl)
theorem dX6_isPlace_17 : decode cX6_isPlace 17 = .ok (.isub, 1) := dk_100 (dk_at dksX6_isPlace_0 17 rfl rfl)
theorem dX6_isPlace_18 : decode cX6_isPlace 18 = .ok (.invokestatic 70, 3) := dk_184 0 70 (dk_at dksX6_isPlace_0 18 rfl rfl)
theorem dX6_isPlace_21 : decode cX6_isPlace 21 = .ok (.ifCond .eq 7, 3) := dk_153 0 7 (dk_at dksX6_isPlace_0 21 rfl rfl)
theorem dX6_isPlace_24 : decode cX6_isPlace 24 = .ok (.iconst 1, 1) := dk_4 (dk_at dksX6_isPlace_1 0 rfl rfl)
theorem dX6_isPlace_25 : decode cX6_isPlace 25 = .ok (.goto 4, 3) := dk_167 0 4 (dk_at dksX6_isPlace_1 1 rfl rfl)
theorem dX6_isPlace_28 : decode cX6_isPlace 28 = .ok (.iconst 0, 1) := dk_3 (dk_at dksX6_isPlace_1 4 rfl rfl)
theorem dX6_isPlace_29 : decode cX6_isPlace 29 = .ok (.ireturn, 1) := dk_172 (dk_at dksX6_isPlace_1 5 rfl rfl)
abbrev cX6_isLine : ByteArray := prog_10_method_17_code
def yX6_isLine : MethodName := ⟨RX6, "isLine", "(I)Z"⟩
def dkwX6_isLine_0 : List UInt8 := [27, 3, 42, 182, 0, 77, 4, 100, 184, 0, 70, 172]
abbrev dktX6_isLine_0 : List UInt8 := dkwX6_isLine_0 ++ []
theorem dksX6_isLine_0 : cX6_isLine.data.toList.drop 0 = dktX6_isLine_0 := by decide +kernel
theorem dX6_isLine_0 : decode cX6_isLine 0 = .ok (.iload_n 1, 1) := dk_27 (dk_at dksX6_isLine_0 0 rfl rfl)
theorem dX6_isLine_1 : decode cX6_isLine 1 = .ok (.iconst 0, 1) := dk_3 (dk_at dksX6_isLine_0 1 rfl rfl)
theorem dX6_isLine_2 : decode cX6_isLine 2 = .ok (.aload_n 0, 1) := dk_42 (dk_at dksX6_isLine_0 2 rfl rfl)
theorem dX6_isLine_3 : decode cX6_isLine 3 = .ok (.invokevirtual 77, 3) := dk_182 0 77 (dk_at dksX6_isLine_0 3 rfl rfl)
theorem dX6_isLine_6 : decode cX6_isLine 6 = .ok (.iconst 1, 1) := dk_4 (dk_at dksX6_isLine_0 6 rfl rfl)
theorem dX6_isLine_7 : decode cX6_isLine 7 = .ok (.isub, 1) := dk_100 (dk_at dksX6_isLine_0 7 rfl rfl)
theorem dX6_isLine_8 : decode cX6_isLine 8 = .ok (.invokestatic 70, 3) := dk_184 0 70 (dk_at dksX6_isLine_0 8 rfl rfl)
theorem dX6_isLine_11 : decode cX6_isLine 11 = .ok (.ireturn, 1) := dk_172 (dk_at dksX6_isLine_0 11 rfl rfl)
abbrev cX6_put : ByteArray := prog_10_method_79_code
def yX6_put : MethodName := ⟨RX6, "put", "(II)I"⟩
def dkwX6_put_1 : List UInt8 := [42, 27, 28, 182, 1, 1, 172]
abbrev dktX6_put_1 : List UInt8 := dkwX6_put_1 ++ []
def dkwX6_put_0 : List UInt8 := [42, 42, 27, 182, 0, 251, 42, 28, 182, 0, 254, 4, 182, 0, 210, 154, 0, 5, 3, 172, 42, 182, 0, 214]
abbrev dktX6_put_0 : List UInt8 := dkwX6_put_0 ++ dktX6_put_1
theorem dksX6_put_0 : cX6_put.data.toList.drop 0 = dktX6_put_0 := by decide +kernel
theorem dksX6_put_1 : cX6_put.data.toList.drop 24 = dktX6_put_1 := dk_seg dksX6_put_0 24 rfl rfl
theorem dX6_put_0 : decode cX6_put 0 = .ok (.aload_n 0, 1) := dk_42 (dk_at dksX6_put_0 0 rfl rfl)
theorem dX6_put_1 : decode cX6_put 1 = .ok (.aload_n 0, 1) := dk_42 (dk_at dksX6_put_0 1 rfl rfl)
theorem dX6_put_2 : decode cX6_put 2 = .ok (.iload_n 1, 1) := dk_27 (dk_at dksX6_put_0 2 rfl rfl)
theorem dX6_put_3 : decode cX6_put 3 = .ok (.invokevirtual 251, 3) := dk_182 0 251 (dk_at dksX6_put_0 3 rfl rfl)
theorem dX6_put_6 : decode cX6_put 6 = .ok (.aload_n 0, 1) := dk_42 (dk_at dksX6_put_0 6 rfl rfl)
theorem dX6_put_7 : decode cX6_put 7 = .ok (.iload_n 2, 1) := dk_28 (dk_at dksX6_put_0 7 rfl rfl)
theorem dX6_put_8 : decode cX6_put 8 = .ok (.invokevirtual 254, 3) := dk_182 0 254 (dk_at dksX6_put_0 8 rfl rfl)
theorem dX6_put_11 : decode cX6_put 11 = .ok (.iconst 1, 1) := dk_4 (dk_at dksX6_put_0 11 rfl rfl)
theorem dX6_put_12 : decode cX6_put 12 = .ok (.invokevirtual 210, 3) := dk_182 0 210 (dk_at dksX6_put_0 12 rfl rfl)
theorem dX6_put_15 : decode cX6_put 15 = .ok (.ifCond .ne 5, 3) := dk_154 0 5 (dk_at dksX6_put_0 15 rfl rfl)
theorem dX6_put_18 : decode cX6_put 18 = .ok (.iconst 0, 1) := dk_3 (dk_at dksX6_put_0 18 rfl rfl)
theorem dX6_put_19 : decode cX6_put 19 = .ok (.ireturn, 1) := dk_172 (dk_at dksX6_put_0 19 rfl rfl)
theorem dX6_put_20 : decode cX6_put 20 = .ok (.aload_n 0, 1) := dk_42 (dk_at dksX6_put_0 20 rfl rfl)
theorem dX6_put_21 : decode cX6_put 21 = .ok (.invokevirtual 214, 3) := dk_182 0 214 (dk_at dksX6_put_0 21 rfl rfl)
theorem dX6_put_24 : decode cX6_put 24 = .ok (.aload_n 0, 1) := dk_42 (dk_at dksX6_put_1 0 rfl rfl)
theorem dX6_put_25 : decode cX6_put 25 = .ok (.iload_n 1, 1) := dk_27 (dk_at dksX6_put_1 1 rfl rfl)
theorem dX6_put_26 : decode cX6_put 26 = .ok (.iload_n 2, 1) := dk_28 (dk_at dksX6_put_1 2 rfl rfl)
theorem dX6_put_27 : decode cX6_put 27 = .ok (.invokevirtual 257, 3) := dk_182 1 1 (dk_at dksX6_put_1 3 rfl rfl)
theorem dX6_put_30 : decode cX6_put 30 = .ok (.ireturn, 1) := dk_172 (dk_at dksX6_put_1 6 rfl rfl)
abbrev cX6_isCell : ByteArray := prog_10_method_13_code
def yX6_isCell : MethodName := ⟨RX6, "isCell", "(I)Z"⟩
def dkwX6_isCell_0 : List UInt8 := [27, 3, 42, 182, 0, 66, 4, 100, 184, 0, 70, 172]
abbrev dktX6_isCell_0 : List UInt8 := dkwX6_isCell_0 ++ []
theorem dksX6_isCell_0 : cX6_isCell.data.toList.drop 0 = dktX6_isCell_0 := by decide +kernel
theorem dX6_isCell_0 : decode cX6_isCell 0 = .ok (.iload_n 1, 1) := dk_27 (dk_at dksX6_isCell_0 0 rfl rfl)
theorem dX6_isCell_1 : decode cX6_isCell 1 = .ok (.iconst 0, 1) := dk_3 (dk_at dksX6_isCell_0 1 rfl rfl)
theorem dX6_isCell_2 : decode cX6_isCell 2 = .ok (.aload_n 0, 1) := dk_42 (dk_at dksX6_isCell_0 2 rfl rfl)
theorem dX6_isCell_3 : decode cX6_isCell 3 = .ok (.invokevirtual 66, 3) := dk_182 0 66 (dk_at dksX6_isCell_0 3 rfl rfl)
theorem dX6_isCell_6 : decode cX6_isCell 6 = .ok (.iconst 1, 1) := dk_4 (dk_at dksX6_isCell_0 6 rfl rfl)
theorem dX6_isCell_7 : decode cX6_isCell 7 = .ok (.isub, 1) := dk_100 (dk_at dksX6_isCell_0 7 rfl rfl)
theorem dX6_isCell_8 : decode cX6_isCell 8 = .ok (.invokestatic 70, 3) := dk_184 0 70 (dk_at dksX6_isCell_0 8 rfl rfl)
theorem dX6_isCell_11 : decode cX6_isCell 11 = .ok (.ireturn, 1) := dk_172 (dk_at dksX6_isCell_0 11 rfl rfl)
abbrev cX6_isThing : ByteArray := prog_10_method_16_code
def yX6_isThing : MethodName := ⟨RX6, "isThing", "(I)Z"⟩
def dkwX6_isThing_0 : List UInt8 := [27, 3, 42, 180, 0, 7, 4, 46, 184, 0, 70, 172]
abbrev dktX6_isThing_0 : List UInt8 := dkwX6_isThing_0 ++ []
theorem dksX6_isThing_0 : cX6_isThing.data.toList.drop 0 = dktX6_isThing_0 := by decide +kernel
theorem dX6_isThing_0 : decode cX6_isThing 0 = .ok (.iload_n 1, 1) := dk_27 (dk_at dksX6_isThing_0 0 rfl rfl)
theorem dX6_isThing_1 : decode cX6_isThing 1 = .ok (.iconst 0, 1) := dk_3 (dk_at dksX6_isThing_0 1 rfl rfl)
theorem dX6_isThing_2 : decode cX6_isThing 2 = .ok (.aload_n 0, 1) := dk_42 (dk_at dksX6_isThing_0 2 rfl rfl)
theorem dX6_isThing_3 : decode cX6_isThing 3 = .ok (.getfield 7, 3) := dk_180 0 7 (dk_at dksX6_isThing_0 3 rfl rfl)
theorem dX6_isThing_6 : decode cX6_isThing 6 = .ok (.iconst 1, 1) := dk_4 (dk_at dksX6_isThing_0 6 rfl rfl)
theorem dX6_isThing_7 : decode cX6_isThing 7 = .ok (.iaload, 1) := dk_46 (dk_at dksX6_isThing_0 7 rfl rfl)
theorem dX6_isThing_8 : decode cX6_isThing 8 = .ok (.invokestatic 70, 3) := dk_184 0 70 (dk_at dksX6_isThing_0 8 rfl rfl)
theorem dX6_isThing_11 : decode cX6_isThing 11 = .ok (.ireturn, 1) := dk_172 (dk_at dksX6_isThing_0 11 rfl rfl)
abbrev cX6_puts : ByteArray := prog_10_method_78_code
def yX6_puts : MethodName := ⟨RX6, "puts", "(II)I"⟩
def dkwX6_puts_0 : List UInt8 := [42, 180, 0, 7, 16, 23, 27, 96, 46, 62, 42, 180, 0, 7, 16, 23, 27, 96, 4, 28, 120, 79, 29, 172]
abbrev dktX6_puts_0 : List UInt8 := dkwX6_puts_0 ++ []
theorem dksX6_puts_0 : cX6_puts.data.toList.drop 0 = dktX6_puts_0 := by decide +kernel
theorem dX6_puts_0 : decode cX6_puts 0 = .ok (.aload_n 0, 1) := dk_42 (dk_at dksX6_puts_0 0 rfl rfl)
theorem dX6_puts_1 : decode cX6_puts 1 = .ok (.getfield 7, 3) := dk_180 0 7 (dk_at dksX6_puts_0 1 rfl rfl)
theorem dX6_puts_4 : decode cX6_puts 4 = .ok (.bipush 23, 2) := dk_16 23 (dk_at dksX6_puts_0 4 rfl rfl)
theorem dX6_puts_6 : decode cX6_puts 6 = .ok (.iload_n 1, 1) := dk_27 (dk_at dksX6_puts_0 6 rfl rfl)
theorem dX6_puts_7 : decode cX6_puts 7 = .ok (.iadd, 1) := dk_96 (dk_at dksX6_puts_0 7 rfl rfl)
theorem dX6_puts_8 : decode cX6_puts 8 = .ok (.iaload, 1) := dk_46 (dk_at dksX6_puts_0 8 rfl rfl)
theorem dX6_puts_9 : decode cX6_puts 9 = .ok (.istore_n 3, 1) := dk_62 (dk_at dksX6_puts_0 9 rfl rfl)
theorem dX6_puts_10 : decode cX6_puts 10 = .ok (.aload_n 0, 1) := dk_42 (dk_at dksX6_puts_0 10 rfl rfl)
theorem dX6_puts_11 : decode cX6_puts 11 = .ok (.getfield 7, 3) := dk_180 0 7 (dk_at dksX6_puts_0 11 rfl rfl)
theorem dX6_puts_14 : decode cX6_puts 14 = .ok (.bipush 23, 2) := dk_16 23 (dk_at dksX6_puts_0 14 rfl rfl)
theorem dX6_puts_16 : decode cX6_puts 16 = .ok (.iload_n 1, 1) := dk_27 (dk_at dksX6_puts_0 16 rfl rfl)
theorem dX6_puts_17 : decode cX6_puts 17 = .ok (.iadd, 1) := dk_96 (dk_at dksX6_puts_0 17 rfl rfl)
theorem dX6_puts_18 : decode cX6_puts 18 = .ok (.iconst 1, 1) := dk_4 (dk_at dksX6_puts_0 18 rfl rfl)
theorem dX6_puts_19 : decode cX6_puts 19 = .ok (.iload_n 2, 1) := dk_28 (dk_at dksX6_puts_0 19 rfl rfl)
theorem dX6_puts_20 : decode cX6_puts 20 = .ok (.ishl, 1) := dk_120 (dk_at dksX6_puts_0 20 rfl rfl)
theorem dX6_puts_21 : decode cX6_puts 21 = .ok (.iastore, 1) := dk_79 (dk_at dksX6_puts_0 21 rfl rfl)
theorem dX6_puts_22 : decode cX6_puts 22 = .ok (.iload_n 3, 1) := dk_29 (dk_at dksX6_puts_0 22 rfl rfl)
theorem dX6_puts_23 : decode cX6_puts 23 = .ok (.ireturn, 1) := dk_172 (dk_at dksX6_puts_0 23 rfl rfl)
abbrev cX6_crossOut : ByteArray := prog_10_method_80_code
def yX6_crossOut : MethodName := ⟨RX6, "crossOut", "(II)I"⟩
def dkwX6_crossOut_4 : List UInt8 := [46, 172]
abbrev dktX6_crossOut_4 : List UInt8 := dkwX6_crossOut_4 ++ []
def dkwX6_crossOut_3 : List UInt8 := [180, 0, 7, 16, 23, 27, 96, 92, 46, 4, 28, 120, 2, 130, 126, 79, 42, 180, 0, 7, 16, 23, 27, 96]
abbrev dktX6_crossOut_3 : List UInt8 := dkwX6_crossOut_3 ++ dktX6_crossOut_4
def dkwX6_crossOut_2 : List UInt8 := [184, 0, 102, 153, 0, 7, 4, 167, 0, 4, 3, 182, 0, 210, 154, 0, 5, 3, 172, 42, 182, 0, 214, 42]
abbrev dktX6_crossOut_2 : List UInt8 := dkwX6_crossOut_2 ++ dktX6_crossOut_3
def dkwX6_crossOut_1 : List UInt8 := [27, 182, 0, 251, 42, 28, 182, 0, 254, 29, 153, 0, 23, 42, 180, 0, 7, 16, 23, 27, 96, 46, 28]
abbrev dktX6_crossOut_1 : List UInt8 := dkwX6_crossOut_1 ++ dktX6_crossOut_2
def dkwX6_crossOut_0 : List UInt8 := [42, 27, 182, 0, 251, 153, 0, 15, 42, 28, 182, 0, 254, 153, 0, 7, 4, 167, 0, 4, 3, 62, 42, 42]
abbrev dktX6_crossOut_0 : List UInt8 := dkwX6_crossOut_0 ++ dktX6_crossOut_1
theorem dksX6_crossOut_0 : cX6_crossOut.data.toList.drop 0 = dktX6_crossOut_0 := by decide +kernel
theorem dksX6_crossOut_1 : cX6_crossOut.data.toList.drop 24 = dktX6_crossOut_1 := dk_seg dksX6_crossOut_0 24 rfl rfl
theorem dksX6_crossOut_2 : cX6_crossOut.data.toList.drop 47 = dktX6_crossOut_2 := dk_seg dksX6_crossOut_1 23 rfl rfl
theorem dksX6_crossOut_3 : cX6_crossOut.data.toList.drop 71 = dktX6_crossOut_3 := dk_seg dksX6_crossOut_2 24 rfl rfl
theorem dksX6_crossOut_4 : cX6_crossOut.data.toList.drop 95 = dktX6_crossOut_4 := dk_seg dksX6_crossOut_3 24 rfl rfl
theorem dX6_crossOut_0 : decode cX6_crossOut 0 = .ok (.aload_n 0, 1) := dk_42 (dk_at dksX6_crossOut_0 0 rfl rfl)
theorem dX6_crossOut_1 : decode cX6_crossOut 1 = .ok (.iload_n 1, 1) := dk_27 (dk_at dksX6_crossOut_0 1 rfl rfl)
theorem dX6_crossOut_2 : decode cX6_crossOut 2 = .ok (.invokevirtual 251, 3) := dk_182 0 251 (dk_at dksX6_crossOut_0 2 rfl rfl)
theorem dX6_crossOut_5 : decode cX6_crossOut 5 = .ok (.ifCond .eq 15, 3) := dk_153 0 15 (dk_at dksX6_crossOut_0 5 rfl rfl)
theorem dX6_crossOut_8 : decode cX6_crossOut 8 = .ok (.aload_n 0, 1) := dk_42 (dk_at dksX6_crossOut_0 8 rfl rfl)
theorem dX6_crossOut_9 : decode cX6_crossOut 9 = .ok (.iload_n 2, 1) := dk_28 (dk_at dksX6_crossOut_0 9 rfl rfl)
theorem dX6_crossOut_10 : decode cX6_crossOut 10 = .ok (.invokevirtual 254, 3) := dk_182 0 254 (dk_at dksX6_crossOut_0 10 rfl rfl)
theorem dX6_crossOut_13 : decode cX6_crossOut 13 = .ok (.ifCond .eq 7, 3) := dk_153 0 7 (dk_at dksX6_crossOut_0 13 rfl rfl)
theorem dX6_crossOut_16 : decode cX6_crossOut 16 = .ok (.iconst 1, 1) := dk_4 (dk_at dksX6_crossOut_0 16 rfl rfl)
theorem dX6_crossOut_17 : decode cX6_crossOut 17 = .ok (.goto 4, 3) := dk_167 0 4 (dk_at dksX6_crossOut_0 17 rfl rfl)
theorem dX6_crossOut_20 : decode cX6_crossOut 20 = .ok (.iconst 0, 1) := dk_3 (dk_at dksX6_crossOut_0 20 rfl rfl)
theorem dX6_crossOut_21 : decode cX6_crossOut 21 = .ok (.istore_n 3, 1) := dk_62 (dk_at dksX6_crossOut_0 21 rfl rfl)
theorem dX6_crossOut_22 : decode cX6_crossOut 22 = .ok (.aload_n 0, 1) := dk_42 (dk_at dksX6_crossOut_0 22 rfl rfl)
theorem dX6_crossOut_23 : decode cX6_crossOut 23 = .ok (.aload_n 0, 1) := dk_42 (dk_at dksX6_crossOut_0 23 rfl rfl)
theorem dX6_crossOut_24 : decode cX6_crossOut 24 = .ok (.iload_n 1, 1) := dk_27 (dk_at dksX6_crossOut_1 0 rfl rfl)
theorem dX6_crossOut_25 : decode cX6_crossOut 25 = .ok (.invokevirtual 251, 3) := dk_182 0 251 (dk_at dksX6_crossOut_1 1 rfl rfl)
theorem dX6_crossOut_28 : decode cX6_crossOut 28 = .ok (.aload_n 0, 1) := dk_42 (dk_at dksX6_crossOut_1 4 rfl rfl)
theorem dX6_crossOut_29 : decode cX6_crossOut 29 = .ok (.iload_n 2, 1) := dk_28 (dk_at dksX6_crossOut_1 5 rfl rfl)
theorem dX6_crossOut_30 : decode cX6_crossOut 30 = .ok (.invokevirtual 254, 3) := dk_182 0 254 (dk_at dksX6_crossOut_1 6 rfl rfl)
theorem dX6_crossOut_33 : decode cX6_crossOut 33 = .ok (.iload_n 3, 1) := dk_29 (dk_at dksX6_crossOut_1 9 rfl rfl)
theorem dX6_crossOut_34 : decode cX6_crossOut 34 = .ok (.ifCond .eq 23, 3) := dk_153 0 23 (dk_at dksX6_crossOut_1 10 rfl rfl)
theorem dX6_crossOut_37 : decode cX6_crossOut 37 = .ok (.aload_n 0, 1) := dk_42 (dk_at dksX6_crossOut_1 13 rfl rfl)
theorem dX6_crossOut_38 : decode cX6_crossOut 38 = .ok (.getfield 7, 3) := dk_180 0 7 (dk_at dksX6_crossOut_1 14 rfl rfl)
theorem dX6_crossOut_41 : decode cX6_crossOut 41 = .ok (.bipush 23, 2) := dk_16 23 (dk_at dksX6_crossOut_1 17 rfl rfl)
theorem dX6_crossOut_43 : decode cX6_crossOut 43 = .ok (.iload_n 1, 1) := dk_27 (dk_at dksX6_crossOut_1 19 rfl rfl)
theorem dX6_crossOut_44 : decode cX6_crossOut 44 = .ok (.iadd, 1) := dk_96 (dk_at dksX6_crossOut_1 20 rfl rfl)
theorem dX6_crossOut_45 : decode cX6_crossOut 45 = .ok (.iaload, 1) := dk_46 (dk_at dksX6_crossOut_1 21 rfl rfl)
theorem dX6_crossOut_46 : decode cX6_crossOut 46 = .ok (.iload_n 2, 1) := dk_28 (dk_at dksX6_crossOut_1 22 rfl rfl)
theorem dX6_crossOut_47 : decode cX6_crossOut 47 = .ok (.invokestatic 102, 3) := dk_184 0 102 (dk_at dksX6_crossOut_2 0 rfl rfl)
theorem dX6_crossOut_50 : decode cX6_crossOut 50 = .ok (.ifCond .eq 7, 3) := dk_153 0 7 (dk_at dksX6_crossOut_2 3 rfl rfl)
theorem dX6_crossOut_53 : decode cX6_crossOut 53 = .ok (.iconst 1, 1) := dk_4 (dk_at dksX6_crossOut_2 6 rfl rfl)
theorem dX6_crossOut_54 : decode cX6_crossOut 54 = .ok (.goto 4, 3) := dk_167 0 4 (dk_at dksX6_crossOut_2 7 rfl rfl)
theorem dX6_crossOut_57 : decode cX6_crossOut 57 = .ok (.iconst 0, 1) := dk_3 (dk_at dksX6_crossOut_2 10 rfl rfl)
theorem dX6_crossOut_58 : decode cX6_crossOut 58 = .ok (.invokevirtual 210, 3) := dk_182 0 210 (dk_at dksX6_crossOut_2 11 rfl rfl)
theorem dX6_crossOut_61 : decode cX6_crossOut 61 = .ok (.ifCond .ne 5, 3) := dk_154 0 5 (dk_at dksX6_crossOut_2 14 rfl rfl)
theorem dX6_crossOut_64 : decode cX6_crossOut 64 = .ok (.iconst 0, 1) := dk_3 (dk_at dksX6_crossOut_2 17 rfl rfl)
theorem dX6_crossOut_65 : decode cX6_crossOut 65 = .ok (.ireturn, 1) := dk_172 (dk_at dksX6_crossOut_2 18 rfl rfl)
theorem dX6_crossOut_66 : decode cX6_crossOut 66 = .ok (.aload_n 0, 1) := dk_42 (dk_at dksX6_crossOut_2 19 rfl rfl)
theorem dX6_crossOut_67 : decode cX6_crossOut 67 = .ok (.invokevirtual 214, 3) := dk_182 0 214 (dk_at dksX6_crossOut_2 20 rfl rfl)
theorem dX6_crossOut_70 : decode cX6_crossOut 70 = .ok (.aload_n 0, 1) := dk_42 (dk_at dksX6_crossOut_2 23 rfl rfl)
theorem dX6_crossOut_71 : decode cX6_crossOut 71 = .ok (.getfield 7, 3) := dk_180 0 7 (dk_at dksX6_crossOut_3 0 rfl rfl)
theorem dX6_crossOut_74 : decode cX6_crossOut 74 = .ok (.bipush 23, 2) := dk_16 23 (dk_at dksX6_crossOut_3 3 rfl rfl)
theorem dX6_crossOut_76 : decode cX6_crossOut 76 = .ok (.iload_n 1, 1) := dk_27 (dk_at dksX6_crossOut_3 5 rfl rfl)
theorem dX6_crossOut_77 : decode cX6_crossOut 77 = .ok (.iadd, 1) := dk_96 (dk_at dksX6_crossOut_3 6 rfl rfl)
theorem dX6_crossOut_78 : decode cX6_crossOut 78 = .ok (.dup2, 1) := dk_92 (dk_at dksX6_crossOut_3 7 rfl rfl)
theorem dX6_crossOut_79 : decode cX6_crossOut 79 = .ok (.iaload, 1) := dk_46 (dk_at dksX6_crossOut_3 8 rfl rfl)
theorem dX6_crossOut_80 : decode cX6_crossOut 80 = .ok (.iconst 1, 1) := dk_4 (dk_at dksX6_crossOut_3 9 rfl rfl)
theorem dX6_crossOut_81 : decode cX6_crossOut 81 = .ok (.iload_n 2, 1) := dk_28 (dk_at dksX6_crossOut_3 10 rfl rfl)
theorem dX6_crossOut_82 : decode cX6_crossOut 82 = .ok (.ishl, 1) := dk_120 (dk_at dksX6_crossOut_3 11 rfl rfl)
theorem dX6_crossOut_83 : decode cX6_crossOut 83 = .ok (.iconst (-1), 1) := dk_2 (dk_at dksX6_crossOut_3 12 rfl rfl)
theorem dX6_crossOut_84 : decode cX6_crossOut 84 = .ok (.ixor, 1) := dk_130 (dk_at dksX6_crossOut_3 13 rfl rfl)
theorem dX6_crossOut_85 : decode cX6_crossOut 85 = .ok (.iand, 1) := dk_126 (dk_at dksX6_crossOut_3 14 rfl rfl)
theorem dX6_crossOut_86 : decode cX6_crossOut 86 = .ok (.iastore, 1) := dk_79 (dk_at dksX6_crossOut_3 15 rfl rfl)
theorem dX6_crossOut_87 : decode cX6_crossOut 87 = .ok (.aload_n 0, 1) := dk_42 (dk_at dksX6_crossOut_3 16 rfl rfl)
theorem dX6_crossOut_88 : decode cX6_crossOut 88 = .ok (.getfield 7, 3) := dk_180 0 7 (dk_at dksX6_crossOut_3 17 rfl rfl)
theorem dX6_crossOut_91 : decode cX6_crossOut 91 = .ok (.bipush 23, 2) := dk_16 23 (dk_at dksX6_crossOut_3 20 rfl rfl)
theorem dX6_crossOut_93 : decode cX6_crossOut 93 = .ok (.iload_n 1, 1) := dk_27 (dk_at dksX6_crossOut_3 22 rfl rfl)
theorem dX6_crossOut_94 : decode cX6_crossOut 94 = .ok (.iadd, 1) := dk_96 (dk_at dksX6_crossOut_3 23 rfl rfl)
theorem dX6_crossOut_95 : decode cX6_crossOut 95 = .ok (.iaload, 1) := dk_46 (dk_at dksX6_crossOut_4 0 rfl rfl)
theorem dX6_crossOut_96 : decode cX6_crossOut 96 = .ok (.ireturn, 1) := dk_172 (dk_at dksX6_crossOut_4 1 rfl rfl)
abbrev cX6_clearCells : ByteArray := prog_10_method_81_code
def yX6_clearCells : MethodName := ⟨RX6, "clearCells", "()I"⟩
def dkwX6_clearCells_2 : List UInt8 := [60, 42, 180, 0, 7, 16, 23, 28, 96, 42, 182, 0, 84, 79, 132, 2, 1, 167, 255, 205, 27, 172]
abbrev dktX6_clearCells_2 : List UInt8 := dkwX6_clearCells_2 ++ []
def dkwX6_clearCells_1 : List UInt8 := [180, 0, 7, 16, 23, 28, 96, 46, 42, 182, 0, 84, 159, 0, 7, 4, 167, 0, 4, 3, 184, 0, 80, 96]
abbrev dktX6_clearCells_1 : List UInt8 := dkwX6_clearCells_1 ++ dktX6_clearCells_2
def dkwX6_clearCells_0 : List UInt8 := [42, 3, 181, 0, 55, 42, 182, 0, 214, 3, 60, 3, 61, 28, 42, 182, 0, 66, 162, 0, 49, 27, 42]
abbrev dktX6_clearCells_0 : List UInt8 := dkwX6_clearCells_0 ++ dktX6_clearCells_1
theorem dksX6_clearCells_0 : cX6_clearCells.data.toList.drop 0 = dktX6_clearCells_0 := by decide +kernel
theorem dksX6_clearCells_1 : cX6_clearCells.data.toList.drop 23 = dktX6_clearCells_1 := dk_seg dksX6_clearCells_0 23 rfl rfl
theorem dksX6_clearCells_2 : cX6_clearCells.data.toList.drop 47 = dktX6_clearCells_2 := dk_seg dksX6_clearCells_1 24 rfl rfl
theorem dX6_clearCells_0 : decode cX6_clearCells 0 = .ok (.aload_n 0, 1) := dk_42 (dk_at dksX6_clearCells_0 0 rfl rfl)
theorem dX6_clearCells_1 : decode cX6_clearCells 1 = .ok (.iconst 0, 1) := dk_3 (dk_at dksX6_clearCells_0 1 rfl rfl)
theorem dX6_clearCells_2 : decode cX6_clearCells 2 = .ok (.putfield 55, 3) := dk_181 0 55 (dk_at dksX6_clearCells_0 2 rfl rfl)
theorem dX6_clearCells_5 : decode cX6_clearCells 5 = .ok (.aload_n 0, 1) := dk_42 (dk_at dksX6_clearCells_0 5 rfl rfl)
theorem dX6_clearCells_6 : decode cX6_clearCells 6 = .ok (.invokevirtual 214, 3) := dk_182 0 214 (dk_at dksX6_clearCells_0 6 rfl rfl)
theorem dX6_clearCells_9 : decode cX6_clearCells 9 = .ok (.iconst 0, 1) := dk_3 (dk_at dksX6_clearCells_0 9 rfl rfl)
theorem dX6_clearCells_10 : decode cX6_clearCells 10 = .ok (.istore_n 1, 1) := dk_60 (dk_at dksX6_clearCells_0 10 rfl rfl)
theorem dX6_clearCells_11 : decode cX6_clearCells 11 = .ok (.iconst 0, 1) := dk_3 (dk_at dksX6_clearCells_0 11 rfl rfl)
theorem dX6_clearCells_12 : decode cX6_clearCells 12 = .ok (.istore_n 2, 1) := dk_61 (dk_at dksX6_clearCells_0 12 rfl rfl)
theorem dX6_clearCells_13 : decode cX6_clearCells 13 = .ok (.iload_n 2, 1) := dk_28 (dk_at dksX6_clearCells_0 13 rfl rfl)
theorem dX6_clearCells_14 : decode cX6_clearCells 14 = .ok (.aload_n 0, 1) := dk_42 (dk_at dksX6_clearCells_0 14 rfl rfl)
theorem dX6_clearCells_15 : decode cX6_clearCells 15 = .ok (.invokevirtual 66, 3) := dk_182 0 66 (dk_at dksX6_clearCells_0 15 rfl rfl)
theorem dX6_clearCells_18 : decode cX6_clearCells 18 = .ok (.if_icmp .ge 49, 3) := dk_162 0 49 (dk_at dksX6_clearCells_0 18 rfl rfl)
theorem dX6_clearCells_21 : decode cX6_clearCells 21 = .ok (.iload_n 1, 1) := dk_27 (dk_at dksX6_clearCells_0 21 rfl rfl)
theorem dX6_clearCells_22 : decode cX6_clearCells 22 = .ok (.aload_n 0, 1) := dk_42 (dk_at dksX6_clearCells_0 22 rfl rfl)
theorem dX6_clearCells_23 : decode cX6_clearCells 23 = .ok (.getfield 7, 3) := dk_180 0 7 (dk_at dksX6_clearCells_1 0 rfl rfl)
theorem dX6_clearCells_26 : decode cX6_clearCells 26 = .ok (.bipush 23, 2) := dk_16 23 (dk_at dksX6_clearCells_1 3 rfl rfl)
theorem dX6_clearCells_28 : decode cX6_clearCells 28 = .ok (.iload_n 2, 1) := dk_28 (dk_at dksX6_clearCells_1 5 rfl rfl)
theorem dX6_clearCells_29 : decode cX6_clearCells 29 = .ok (.iadd, 1) := dk_96 (dk_at dksX6_clearCells_1 6 rfl rfl)
theorem dX6_clearCells_30 : decode cX6_clearCells 30 = .ok (.iaload, 1) := dk_46 (dk_at dksX6_clearCells_1 7 rfl rfl)
theorem dX6_clearCells_31 : decode cX6_clearCells 31 = .ok (.aload_n 0, 1) := dk_42 (dk_at dksX6_clearCells_1 8 rfl rfl)
theorem dX6_clearCells_32 : decode cX6_clearCells 32 = .ok (.invokevirtual 84, 3) := dk_182 0 84 (dk_at dksX6_clearCells_1 9 rfl rfl)
theorem dX6_clearCells_35 : decode cX6_clearCells 35 = .ok (.if_icmp .eq 7, 3) := dk_159 0 7 (dk_at dksX6_clearCells_1 12 rfl rfl)
theorem dX6_clearCells_38 : decode cX6_clearCells 38 = .ok (.iconst 1, 1) := dk_4 (dk_at dksX6_clearCells_1 15 rfl rfl)
theorem dX6_clearCells_39 : decode cX6_clearCells 39 = .ok (.goto 4, 3) := dk_167 0 4 (dk_at dksX6_clearCells_1 16 rfl rfl)
theorem dX6_clearCells_42 : decode cX6_clearCells 42 = .ok (.iconst 0, 1) := dk_3 (dk_at dksX6_clearCells_1 19 rfl rfl)
theorem dX6_clearCells_43 : decode cX6_clearCells 43 = .ok (.invokestatic 80, 3) := dk_184 0 80 (dk_at dksX6_clearCells_1 20 rfl rfl)
theorem dX6_clearCells_46 : decode cX6_clearCells 46 = .ok (.iadd, 1) := dk_96 (dk_at dksX6_clearCells_1 23 rfl rfl)
theorem dX6_clearCells_47 : decode cX6_clearCells 47 = .ok (.istore_n 1, 1) := dk_60 (dk_at dksX6_clearCells_2 0 rfl rfl)
theorem dX6_clearCells_48 : decode cX6_clearCells 48 = .ok (.aload_n 0, 1) := dk_42 (dk_at dksX6_clearCells_2 1 rfl rfl)
theorem dX6_clearCells_49 : decode cX6_clearCells 49 = .ok (.getfield 7, 3) := dk_180 0 7 (dk_at dksX6_clearCells_2 2 rfl rfl)
theorem dX6_clearCells_52 : decode cX6_clearCells 52 = .ok (.bipush 23, 2) := dk_16 23 (dk_at dksX6_clearCells_2 5 rfl rfl)
theorem dX6_clearCells_54 : decode cX6_clearCells 54 = .ok (.iload_n 2, 1) := dk_28 (dk_at dksX6_clearCells_2 7 rfl rfl)
theorem dX6_clearCells_55 : decode cX6_clearCells 55 = .ok (.iadd, 1) := dk_96 (dk_at dksX6_clearCells_2 8 rfl rfl)
theorem dX6_clearCells_56 : decode cX6_clearCells 56 = .ok (.aload_n 0, 1) := dk_42 (dk_at dksX6_clearCells_2 9 rfl rfl)
theorem dX6_clearCells_57 : decode cX6_clearCells 57 = .ok (.invokevirtual 84, 3) := dk_182 0 84 (dk_at dksX6_clearCells_2 10 rfl rfl)
theorem dX6_clearCells_60 : decode cX6_clearCells 60 = .ok (.iastore, 1) := dk_79 (dk_at dksX6_clearCells_2 13 rfl rfl)
theorem dX6_clearCells_61 : decode cX6_clearCells 61 = .ok (.iinc 2 1, 3) := dk_132 2 1 (dk_at dksX6_clearCells_2 14 rfl rfl)
theorem dX6_clearCells_64 : decode cX6_clearCells 64 = .ok (.goto (-51), 3) := dk_167 255 205 (dk_at dksX6_clearCells_2 17 rfl rfl)
theorem dX6_clearCells_67 : decode cX6_clearCells 67 = .ok (.iload_n 1, 1) := dk_27 (dk_at dksX6_clearCells_2 20 rfl rfl)
theorem dX6_clearCells_68 : decode cX6_clearCells 68 = .ok (.ireturn, 1) := dk_172 (dk_at dksX6_clearCells_2 21 rfl rfl)
abbrev cX6_thingsOf : ByteArray := prog_10_method_82_code
def yX6_thingsOf : MethodName := ⟨RX6, "thingsOf", "(I)I"⟩
def dkwX6_thingsOf_1 : List UInt8 := [167, 0, 4, 3, 172]
abbrev dktX6_thingsOf_1 : List UInt8 := dkwX6_thingsOf_1 ++ []
def dkwX6_thingsOf_0 : List UInt8 := [42, 42, 27, 182, 0, 251, 4, 4, 182, 0, 210, 153, 0, 15, 42, 180, 0, 7, 16, 23, 27, 96, 46]
abbrev dktX6_thingsOf_0 : List UInt8 := dkwX6_thingsOf_0 ++ dktX6_thingsOf_1
theorem dksX6_thingsOf_0 : cX6_thingsOf.data.toList.drop 0 = dktX6_thingsOf_0 := by decide +kernel
theorem dksX6_thingsOf_1 : cX6_thingsOf.data.toList.drop 23 = dktX6_thingsOf_1 := dk_seg dksX6_thingsOf_0 23 rfl rfl
theorem dX6_thingsOf_0 : decode cX6_thingsOf 0 = .ok (.aload_n 0, 1) := dk_42 (dk_at dksX6_thingsOf_0 0 rfl rfl)
theorem dX6_thingsOf_1 : decode cX6_thingsOf 1 = .ok (.aload_n 0, 1) := dk_42 (dk_at dksX6_thingsOf_0 1 rfl rfl)
theorem dX6_thingsOf_2 : decode cX6_thingsOf 2 = .ok (.iload_n 1, 1) := dk_27 (dk_at dksX6_thingsOf_0 2 rfl rfl)
theorem dX6_thingsOf_3 : decode cX6_thingsOf 3 = .ok (.invokevirtual 251, 3) := dk_182 0 251 (dk_at dksX6_thingsOf_0 3 rfl rfl)
theorem dX6_thingsOf_6 : decode cX6_thingsOf 6 = .ok (.iconst 1, 1) := dk_4 (dk_at dksX6_thingsOf_0 6 rfl rfl)
theorem dX6_thingsOf_7 : decode cX6_thingsOf 7 = .ok (.iconst 1, 1) := dk_4 (dk_at dksX6_thingsOf_0 7 rfl rfl)
theorem dX6_thingsOf_8 : decode cX6_thingsOf 8 = .ok (.invokevirtual 210, 3) := dk_182 0 210 (dk_at dksX6_thingsOf_0 8 rfl rfl)
theorem dX6_thingsOf_11 : decode cX6_thingsOf 11 = .ok (.ifCond .eq 15, 3) := dk_153 0 15 (dk_at dksX6_thingsOf_0 11 rfl rfl)
theorem dX6_thingsOf_14 : decode cX6_thingsOf 14 = .ok (.aload_n 0, 1) := dk_42 (dk_at dksX6_thingsOf_0 14 rfl rfl)
theorem dX6_thingsOf_15 : decode cX6_thingsOf 15 = .ok (.getfield 7, 3) := dk_180 0 7 (dk_at dksX6_thingsOf_0 15 rfl rfl)
theorem dX6_thingsOf_18 : decode cX6_thingsOf 18 = .ok (.bipush 23, 2) := dk_16 23 (dk_at dksX6_thingsOf_0 18 rfl rfl)
theorem dX6_thingsOf_20 : decode cX6_thingsOf 20 = .ok (.iload_n 1, 1) := dk_27 (dk_at dksX6_thingsOf_0 20 rfl rfl)
theorem dX6_thingsOf_21 : decode cX6_thingsOf 21 = .ok (.iadd, 1) := dk_96 (dk_at dksX6_thingsOf_0 21 rfl rfl)
theorem dX6_thingsOf_22 : decode cX6_thingsOf 22 = .ok (.iaload, 1) := dk_46 (dk_at dksX6_thingsOf_0 22 rfl rfl)
theorem dX6_thingsOf_23 : decode cX6_thingsOf 23 = .ok (.goto 4, 3) := dk_167 0 4 (dk_at dksX6_thingsOf_1 0 rfl rfl)
theorem dX6_thingsOf_26 : decode cX6_thingsOf 26 = .ok (.iconst 0, 1) := dk_3 (dk_at dksX6_thingsOf_1 3 rfl rfl)
theorem dX6_thingsOf_27 : decode cX6_thingsOf 27 = .ok (.ireturn, 1) := dk_172 (dk_at dksX6_thingsOf_1 4 rfl rfl)
abbrev cX6_cellsWith : ByteArray := prog_10_method_83_code
def yX6_cellsWith : MethodName := ⟨RX6, "cellsWith", "(I)J"⟩
def dkwX6_cellsWith_2 : List UInt8 := [153, 0, 10, 10, 21, 5, 121, 167, 0, 4, 9, 129, 65, 132, 5, 1, 167, 255, 211, 32, 173]
abbrev dktX6_cellsWith_2 : List UInt8 := dkwX6_cellsWith_2 ++ []
def dkwX6_cellsWith_1 : List UInt8 := [162, 0, 42, 21, 4, 153, 0, 37, 32, 42, 180, 0, 7, 16, 23, 21, 5, 96, 46, 27, 184, 0, 102]
abbrev dktX6_cellsWith_1 : List UInt8 := dkwX6_cellsWith_1 ++ dktX6_cellsWith_2
def dkwX6_cellsWith_0 : List UInt8 := [9, 65, 42, 42, 27, 182, 0, 254, 4, 4, 182, 0, 210, 54, 4, 3, 54, 5, 21, 5, 42, 182, 0, 66]
abbrev dktX6_cellsWith_0 : List UInt8 := dkwX6_cellsWith_0 ++ dktX6_cellsWith_1
theorem dksX6_cellsWith_0 : cX6_cellsWith.data.toList.drop 0 = dktX6_cellsWith_0 := by decide +kernel
theorem dksX6_cellsWith_1 : cX6_cellsWith.data.toList.drop 24 = dktX6_cellsWith_1 := dk_seg dksX6_cellsWith_0 24 rfl rfl
theorem dksX6_cellsWith_2 : cX6_cellsWith.data.toList.drop 47 = dktX6_cellsWith_2 := dk_seg dksX6_cellsWith_1 23 rfl rfl
theorem dX6_cellsWith_0 : decode cX6_cellsWith 0 = .ok (.lconst 0, 1) := dk_9 (dk_at dksX6_cellsWith_0 0 rfl rfl)
theorem dX6_cellsWith_1 : decode cX6_cellsWith 1 = .ok (.lstore_n 2, 1) := dk_65 (dk_at dksX6_cellsWith_0 1 rfl rfl)
theorem dX6_cellsWith_2 : decode cX6_cellsWith 2 = .ok (.aload_n 0, 1) := dk_42 (dk_at dksX6_cellsWith_0 2 rfl rfl)
theorem dX6_cellsWith_3 : decode cX6_cellsWith 3 = .ok (.aload_n 0, 1) := dk_42 (dk_at dksX6_cellsWith_0 3 rfl rfl)
theorem dX6_cellsWith_4 : decode cX6_cellsWith 4 = .ok (.iload_n 1, 1) := dk_27 (dk_at dksX6_cellsWith_0 4 rfl rfl)
theorem dX6_cellsWith_5 : decode cX6_cellsWith 5 = .ok (.invokevirtual 254, 3) := dk_182 0 254 (dk_at dksX6_cellsWith_0 5 rfl rfl)
theorem dX6_cellsWith_8 : decode cX6_cellsWith 8 = .ok (.iconst 1, 1) := dk_4 (dk_at dksX6_cellsWith_0 8 rfl rfl)
theorem dX6_cellsWith_9 : decode cX6_cellsWith 9 = .ok (.iconst 1, 1) := dk_4 (dk_at dksX6_cellsWith_0 9 rfl rfl)
theorem dX6_cellsWith_10 : decode cX6_cellsWith 10 = .ok (.invokevirtual 210, 3) := dk_182 0 210 (dk_at dksX6_cellsWith_0 10 rfl rfl)
theorem dX6_cellsWith_13 : decode cX6_cellsWith 13 = .ok (.istore 4, 2) := dk_54 4 (dk_at dksX6_cellsWith_0 13 rfl rfl)
theorem dX6_cellsWith_15 : decode cX6_cellsWith 15 = .ok (.iconst 0, 1) := dk_3 (dk_at dksX6_cellsWith_0 15 rfl rfl)
theorem dX6_cellsWith_16 : decode cX6_cellsWith 16 = .ok (.istore 5, 2) := dk_54 5 (dk_at dksX6_cellsWith_0 16 rfl rfl)
theorem dX6_cellsWith_18 : decode cX6_cellsWith 18 = .ok (.iload 5, 2) := dk_21 5 (dk_at dksX6_cellsWith_0 18 rfl rfl)
theorem dX6_cellsWith_20 : decode cX6_cellsWith 20 = .ok (.aload_n 0, 1) := dk_42 (dk_at dksX6_cellsWith_0 20 rfl rfl)
theorem dX6_cellsWith_21 : decode cX6_cellsWith 21 = .ok (.invokevirtual 66, 3) := dk_182 0 66 (dk_at dksX6_cellsWith_0 21 rfl rfl)
theorem dX6_cellsWith_24 : decode cX6_cellsWith 24 = .ok (.if_icmp .ge 42, 3) := dk_162 0 42 (dk_at dksX6_cellsWith_1 0 rfl rfl)
theorem dX6_cellsWith_27 : decode cX6_cellsWith 27 = .ok (.iload 4, 2) := dk_21 4 (dk_at dksX6_cellsWith_1 3 rfl rfl)
theorem dX6_cellsWith_29 : decode cX6_cellsWith 29 = .ok (.ifCond .eq 37, 3) := dk_153 0 37 (dk_at dksX6_cellsWith_1 5 rfl rfl)
theorem dX6_cellsWith_32 : decode cX6_cellsWith 32 = .ok (.lload_n 2, 1) := dk_32 (dk_at dksX6_cellsWith_1 8 rfl rfl)
theorem dX6_cellsWith_33 : decode cX6_cellsWith 33 = .ok (.aload_n 0, 1) := dk_42 (dk_at dksX6_cellsWith_1 9 rfl rfl)
theorem dX6_cellsWith_34 : decode cX6_cellsWith 34 = .ok (.getfield 7, 3) := dk_180 0 7 (dk_at dksX6_cellsWith_1 10 rfl rfl)
theorem dX6_cellsWith_37 : decode cX6_cellsWith 37 = .ok (.bipush 23, 2) := dk_16 23 (dk_at dksX6_cellsWith_1 13 rfl rfl)
theorem dX6_cellsWith_39 : decode cX6_cellsWith 39 = .ok (.iload 5, 2) := dk_21 5 (dk_at dksX6_cellsWith_1 15 rfl rfl)
theorem dX6_cellsWith_41 : decode cX6_cellsWith 41 = .ok (.iadd, 1) := dk_96 (dk_at dksX6_cellsWith_1 17 rfl rfl)
theorem dX6_cellsWith_42 : decode cX6_cellsWith 42 = .ok (.iaload, 1) := dk_46 (dk_at dksX6_cellsWith_1 18 rfl rfl)
theorem dX6_cellsWith_43 : decode cX6_cellsWith 43 = .ok (.iload_n 1, 1) := dk_27 (dk_at dksX6_cellsWith_1 19 rfl rfl)
theorem dX6_cellsWith_44 : decode cX6_cellsWith 44 = .ok (.invokestatic 102, 3) := dk_184 0 102 (dk_at dksX6_cellsWith_1 20 rfl rfl)
theorem dX6_cellsWith_47 : decode cX6_cellsWith 47 = .ok (.ifCond .eq 10, 3) := dk_153 0 10 (dk_at dksX6_cellsWith_2 0 rfl rfl)
theorem dX6_cellsWith_50 : decode cX6_cellsWith 50 = .ok (.lconst 1, 1) := dk_10 (dk_at dksX6_cellsWith_2 3 rfl rfl)
theorem dX6_cellsWith_51 : decode cX6_cellsWith 51 = .ok (.iload 5, 2) := dk_21 5 (dk_at dksX6_cellsWith_2 4 rfl rfl)
theorem dX6_cellsWith_53 : decode cX6_cellsWith 53 = .ok (.lshl, 1) := dk_121 (dk_at dksX6_cellsWith_2 6 rfl rfl)
theorem dX6_cellsWith_54 : decode cX6_cellsWith 54 = .ok (.goto 4, 3) := dk_167 0 4 (dk_at dksX6_cellsWith_2 7 rfl rfl)
theorem dX6_cellsWith_57 : decode cX6_cellsWith 57 = .ok (.lconst 0, 1) := dk_9 (dk_at dksX6_cellsWith_2 10 rfl rfl)
theorem dX6_cellsWith_58 : decode cX6_cellsWith 58 = .ok (.lor, 1) := dk_129 (dk_at dksX6_cellsWith_2 11 rfl rfl)
theorem dX6_cellsWith_59 : decode cX6_cellsWith 59 = .ok (.lstore_n 2, 1) := dk_65 (dk_at dksX6_cellsWith_2 12 rfl rfl)
theorem dX6_cellsWith_60 : decode cX6_cellsWith 60 = .ok (.iinc 5 1, 3) := dk_132 5 1 (dk_at dksX6_cellsWith_2 13 rfl rfl)
theorem dX6_cellsWith_63 : decode cX6_cellsWith 63 = .ok (.goto (-45), 3) := dk_167 255 211 (dk_at dksX6_cellsWith_2 16 rfl rfl)
theorem dX6_cellsWith_66 : decode cX6_cellsWith 66 = .ok (.lload_n 2, 1) := dk_32 (dk_at dksX6_cellsWith_2 19 rfl rfl)
theorem dX6_cellsWith_67 : decode cX6_cellsWith 67 = .ok (.lreturn, 1) := dk_173 (dk_at dksX6_cellsWith_2 20 rfl rfl)
abbrev cX6_settled : ByteArray := prog_10_method_84_code
def yX6_settled : MethodName := ⟨RX6, "settled", "()J"⟩
def dkwX6_settled_2 : List UInt8 := [167, 255, 219, 31, 173]
abbrev dktX6_settled_2 : List UInt8 := dkwX6_settled_2 ++ []
def dkwX6_settled_1 : List UInt8 := [16, 23, 29, 96, 46, 182, 0, 136, 153, 0, 9, 10, 29, 121, 167, 0, 4, 9, 129, 64, 132, 3, 1]
abbrev dktX6_settled_1 : List UInt8 := dkwX6_settled_1 ++ dktX6_settled_2
def dkwX6_settled_0 : List UInt8 := [42, 3, 181, 0, 55, 9, 64, 3, 62, 29, 42, 182, 0, 66, 162, 0, 35, 31, 42, 42, 180, 0, 7]
abbrev dktX6_settled_0 : List UInt8 := dkwX6_settled_0 ++ dktX6_settled_1
theorem dksX6_settled_0 : cX6_settled.data.toList.drop 0 = dktX6_settled_0 := by decide +kernel
theorem dksX6_settled_1 : cX6_settled.data.toList.drop 23 = dktX6_settled_1 := dk_seg dksX6_settled_0 23 rfl rfl
theorem dksX6_settled_2 : cX6_settled.data.toList.drop 46 = dktX6_settled_2 := dk_seg dksX6_settled_1 23 rfl rfl
theorem dX6_settled_0 : decode cX6_settled 0 = .ok (.aload_n 0, 1) := dk_42 (dk_at dksX6_settled_0 0 rfl rfl)
theorem dX6_settled_1 : decode cX6_settled 1 = .ok (.iconst 0, 1) := dk_3 (dk_at dksX6_settled_0 1 rfl rfl)
theorem dX6_settled_2 : decode cX6_settled 2 = .ok (.putfield 55, 3) := dk_181 0 55 (dk_at dksX6_settled_0 2 rfl rfl)
theorem dX6_settled_5 : decode cX6_settled 5 = .ok (.lconst 0, 1) := dk_9 (dk_at dksX6_settled_0 5 rfl rfl)
theorem dX6_settled_6 : decode cX6_settled 6 = .ok (.lstore_n 1, 1) := dk_64 (dk_at dksX6_settled_0 6 rfl rfl)
theorem dX6_settled_7 : decode cX6_settled 7 = .ok (.iconst 0, 1) := dk_3 (dk_at dksX6_settled_0 7 rfl rfl)
theorem dX6_settled_8 : decode cX6_settled 8 = .ok (.istore_n 3, 1) := dk_62 (dk_at dksX6_settled_0 8 rfl rfl)
theorem dX6_settled_9 : decode cX6_settled 9 = .ok (.iload_n 3, 1) := dk_29 (dk_at dksX6_settled_0 9 rfl rfl)
theorem dX6_settled_10 : decode cX6_settled 10 = .ok (.aload_n 0, 1) := dk_42 (dk_at dksX6_settled_0 10 rfl rfl)
theorem dX6_settled_11 : decode cX6_settled 11 = .ok (.invokevirtual 66, 3) := dk_182 0 66 (dk_at dksX6_settled_0 11 rfl rfl)
theorem dX6_settled_14 : decode cX6_settled 14 = .ok (.if_icmp .ge 35, 3) := dk_162 0 35 (dk_at dksX6_settled_0 14 rfl rfl)
theorem dX6_settled_17 : decode cX6_settled 17 = .ok (.lload_n 1, 1) := dk_31 (dk_at dksX6_settled_0 17 rfl rfl)
theorem dX6_settled_18 : decode cX6_settled 18 = .ok (.aload_n 0, 1) := dk_42 (dk_at dksX6_settled_0 18 rfl rfl)
theorem dX6_settled_19 : decode cX6_settled 19 = .ok (.aload_n 0, 1) := dk_42 (dk_at dksX6_settled_0 19 rfl rfl)
theorem dX6_settled_20 : decode cX6_settled 20 = .ok (.getfield 7, 3) := dk_180 0 7 (dk_at dksX6_settled_0 20 rfl rfl)
theorem dX6_settled_23 : decode cX6_settled 23 = .ok (.bipush 23, 2) := dk_16 23 (dk_at dksX6_settled_1 0 rfl rfl)
theorem dX6_settled_25 : decode cX6_settled 25 = .ok (.iload_n 3, 1) := dk_29 (dk_at dksX6_settled_1 2 rfl rfl)
theorem dX6_settled_26 : decode cX6_settled 26 = .ok (.iadd, 1) := dk_96 (dk_at dksX6_settled_1 3 rfl rfl)
theorem dX6_settled_27 : decode cX6_settled 27 = .ok (.iaload, 1) := dk_46 (dk_at dksX6_settled_1 4 rfl rfl)
theorem dX6_settled_28 : decode cX6_settled 28 = .ok (.invokevirtual 136, 3) := dk_182 0 136 (dk_at dksX6_settled_1 5 rfl rfl)
theorem dX6_settled_31 : decode cX6_settled 31 = .ok (.ifCond .eq 9, 3) := dk_153 0 9 (dk_at dksX6_settled_1 8 rfl rfl)
theorem dX6_settled_34 : decode cX6_settled 34 = .ok (.lconst 1, 1) := dk_10 (dk_at dksX6_settled_1 11 rfl rfl)
theorem dX6_settled_35 : decode cX6_settled 35 = .ok (.iload_n 3, 1) := dk_29 (dk_at dksX6_settled_1 12 rfl rfl)
theorem dX6_settled_36 : decode cX6_settled 36 = .ok (.lshl, 1) := dk_121 (dk_at dksX6_settled_1 13 rfl rfl)
theorem dX6_settled_37 : decode cX6_settled 37 = .ok (.goto 4, 3) := dk_167 0 4 (dk_at dksX6_settled_1 14 rfl rfl)
theorem dX6_settled_40 : decode cX6_settled 40 = .ok (.lconst 0, 1) := dk_9 (dk_at dksX6_settled_1 17 rfl rfl)
theorem dX6_settled_41 : decode cX6_settled 41 = .ok (.lor, 1) := dk_129 (dk_at dksX6_settled_1 18 rfl rfl)
theorem dX6_settled_42 : decode cX6_settled 42 = .ok (.lstore_n 1, 1) := dk_64 (dk_at dksX6_settled_1 19 rfl rfl)
theorem dX6_settled_43 : decode cX6_settled 43 = .ok (.iinc 3 1, 3) := dk_132 3 1 (dk_at dksX6_settled_1 20 rfl rfl)
theorem dX6_settled_46 : decode cX6_settled 46 = .ok (.goto (-37), 3) := dk_167 255 219 (dk_at dksX6_settled_2 0 rfl rfl)
theorem dX6_settled_49 : decode cX6_settled 49 = .ok (.lload_n 1, 1) := dk_31 (dk_at dksX6_settled_2 3 rfl rfl)
theorem dX6_settled_50 : decode cX6_settled 50 = .ok (.lreturn, 1) := dk_173 (dk_at dksX6_settled_2 4 rfl rfl)
abbrev cX6_isSettled : ByteArray := prog_10_method_37_code
def yX6_isSettled : MethodName := ⟨RX6, "isSettled", "(I)Z"⟩
def dkwX6_isSettled_0 : List UInt8 := [27, 184, 0, 133, 4, 160, 0, 7, 4, 167, 0, 4, 3, 172]
abbrev dktX6_isSettled_0 : List UInt8 := dkwX6_isSettled_0 ++ []
theorem dksX6_isSettled_0 : cX6_isSettled.data.toList.drop 0 = dktX6_isSettled_0 := by decide +kernel
theorem dX6_isSettled_0 : decode cX6_isSettled 0 = .ok (.iload_n 1, 1) := dk_27 (dk_at dksX6_isSettled_0 0 rfl rfl)
theorem dX6_isSettled_1 : decode cX6_isSettled 1 = .ok (.invokestatic 133, 3) := dk_184 0 133 (dk_at dksX6_isSettled_0 1 rfl rfl)
theorem dX6_isSettled_4 : decode cX6_isSettled 4 = .ok (.iconst 1, 1) := dk_4 (dk_at dksX6_isSettled_0 4 rfl rfl)
theorem dX6_isSettled_5 : decode cX6_isSettled 5 = .ok (.if_icmp .ne 7, 3) := dk_160 0 7 (dk_at dksX6_isSettled_0 5 rfl rfl)
theorem dX6_isSettled_8 : decode cX6_isSettled 8 = .ok (.iconst 1, 1) := dk_4 (dk_at dksX6_isSettled_0 8 rfl rfl)
theorem dX6_isSettled_9 : decode cX6_isSettled 9 = .ok (.goto 4, 3) := dk_167 0 4 (dk_at dksX6_isSettled_0 9 rfl rfl)
theorem dX6_isSettled_12 : decode cX6_isSettled 12 = .ok (.iconst 0, 1) := dk_3 (dk_at dksX6_isSettled_0 12 rfl rfl)
theorem dX6_isSettled_13 : decode cX6_isSettled 13 = .ok (.ireturn, 1) := dk_172 (dk_at dksX6_isSettled_0 13 rfl rfl)
abbrev cX6_many : ByteArray := prog_10_method_18_code
def yX6_many : MethodName := ⟨RX6, "many", "(I)I"⟩
def dkwX6_many_1 : List UInt8 := [172]
abbrev dktX6_many_1 : List UInt8 := dkwX6_many_1 ++ []
def dkwX6_many_0 : List UInt8 := [3, 60, 3, 61, 28, 8, 162, 0, 17, 27, 26, 28, 122, 4, 126, 96, 60, 132, 2, 1, 167, 255, 240, 27]
abbrev dktX6_many_0 : List UInt8 := dkwX6_many_0 ++ dktX6_many_1
theorem dksX6_many_0 : cX6_many.data.toList.drop 0 = dktX6_many_0 := by decide +kernel
theorem dksX6_many_1 : cX6_many.data.toList.drop 24 = dktX6_many_1 := dk_seg dksX6_many_0 24 rfl rfl
theorem dX6_many_0 : decode cX6_many 0 = .ok (.iconst 0, 1) := dk_3 (dk_at dksX6_many_0 0 rfl rfl)
theorem dX6_many_1 : decode cX6_many 1 = .ok (.istore_n 1, 1) := dk_60 (dk_at dksX6_many_0 1 rfl rfl)
theorem dX6_many_2 : decode cX6_many 2 = .ok (.iconst 0, 1) := dk_3 (dk_at dksX6_many_0 2 rfl rfl)
theorem dX6_many_3 : decode cX6_many 3 = .ok (.istore_n 2, 1) := dk_61 (dk_at dksX6_many_0 3 rfl rfl)
theorem dX6_many_4 : decode cX6_many 4 = .ok (.iload_n 2, 1) := dk_28 (dk_at dksX6_many_0 4 rfl rfl)
theorem dX6_many_5 : decode cX6_many 5 = .ok (.iconst 5, 1) := dk_8 (dk_at dksX6_many_0 5 rfl rfl)
theorem dX6_many_6 : decode cX6_many 6 = .ok (.if_icmp .ge 17, 3) := dk_162 0 17 (dk_at dksX6_many_0 6 rfl rfl)
theorem dX6_many_9 : decode cX6_many 9 = .ok (.iload_n 1, 1) := dk_27 (dk_at dksX6_many_0 9 rfl rfl)
theorem dX6_many_10 : decode cX6_many 10 = .ok (.iload_n 0, 1) := dk_26 (dk_at dksX6_many_0 10 rfl rfl)
theorem dX6_many_11 : decode cX6_many 11 = .ok (.iload_n 2, 1) := dk_28 (dk_at dksX6_many_0 11 rfl rfl)
theorem dX6_many_12 : decode cX6_many 12 = .ok (.ishr, 1) := dk_122 (dk_at dksX6_many_0 12 rfl rfl)
theorem dX6_many_13 : decode cX6_many 13 = .ok (.iconst 1, 1) := dk_4 (dk_at dksX6_many_0 13 rfl rfl)
theorem dX6_many_14 : decode cX6_many 14 = .ok (.iand, 1) := dk_126 (dk_at dksX6_many_0 14 rfl rfl)
theorem dX6_many_15 : decode cX6_many 15 = .ok (.iadd, 1) := dk_96 (dk_at dksX6_many_0 15 rfl rfl)
theorem dX6_many_16 : decode cX6_many 16 = .ok (.istore_n 1, 1) := dk_60 (dk_at dksX6_many_0 16 rfl rfl)
theorem dX6_many_17 : decode cX6_many 17 = .ok (.iinc 2 1, 3) := dk_132 2 1 (dk_at dksX6_many_0 17 rfl rfl)
theorem dX6_many_20 : decode cX6_many 20 = .ok (.goto (-16), 3) := dk_167 255 240 (dk_at dksX6_many_0 20 rfl rfl)
theorem dX6_many_23 : decode cX6_many 23 = .ok (.iload_n 1, 1) := dk_27 (dk_at dksX6_many_0 23 rfl rfl)
theorem dX6_many_24 : decode cX6_many 24 = .ok (.ireturn, 1) := dk_172 (dk_at dksX6_many_1 0 rfl rfl)
abbrev cX6_isBroken : ByteArray := prog_10_method_85_code
def yX6_isBroken : MethodName := ⟨RX6, "isBroken", "()Z"⟩
def dkwX6_isBroken_0 : List UInt8 := [42, 3, 181, 0, 55, 42, 182, 1, 4, 153, 0, 7, 4, 167, 0, 4, 3, 172]
abbrev dktX6_isBroken_0 : List UInt8 := dkwX6_isBroken_0 ++ []
theorem dksX6_isBroken_0 : cX6_isBroken.data.toList.drop 0 = dktX6_isBroken_0 := by decide +kernel
theorem dX6_isBroken_0 : decode cX6_isBroken 0 = .ok (.aload_n 0, 1) := dk_42 (dk_at dksX6_isBroken_0 0 rfl rfl)
theorem dX6_isBroken_1 : decode cX6_isBroken 1 = .ok (.iconst 0, 1) := dk_3 (dk_at dksX6_isBroken_0 1 rfl rfl)
theorem dX6_isBroken_2 : decode cX6_isBroken 2 = .ok (.putfield 55, 3) := dk_181 0 55 (dk_at dksX6_isBroken_0 2 rfl rfl)
theorem dX6_isBroken_5 : decode cX6_isBroken 5 = .ok (.aload_n 0, 1) := dk_42 (dk_at dksX6_isBroken_0 5 rfl rfl)
theorem dX6_isBroken_6 : decode cX6_isBroken 6 = .ok (.invokevirtual 260, 3) := dk_182 1 4 (dk_at dksX6_isBroken_0 6 rfl rfl)
theorem dX6_isBroken_9 : decode cX6_isBroken 9 = .ok (.ifCond .eq 7, 3) := dk_153 0 7 (dk_at dksX6_isBroken_0 9 rfl rfl)
theorem dX6_isBroken_12 : decode cX6_isBroken 12 = .ok (.iconst 1, 1) := dk_4 (dk_at dksX6_isBroken_0 12 rfl rfl)
theorem dX6_isBroken_13 : decode cX6_isBroken 13 = .ok (.goto 4, 3) := dk_167 0 4 (dk_at dksX6_isBroken_0 13 rfl rfl)
theorem dX6_isBroken_16 : decode cX6_isBroken 16 = .ok (.iconst 0, 1) := dk_3 (dk_at dksX6_isBroken_0 16 rfl rfl)
theorem dX6_isBroken_17 : decode cX6_isBroken 17 = .ok (.ireturn, 1) := dk_172 (dk_at dksX6_isBroken_0 17 rfl rfl)
abbrev cX6_brokenNow : ByteArray := prog_10_method_36_code
def yX6_brokenNow : MethodName := ⟨RX6, "brokenNow", "()I"⟩
def dkwX6_brokenNow_0 : List UInt8 := [42, 3, 182, 0, 126, 42, 3, 182, 0, 130, 172]
abbrev dktX6_brokenNow_0 : List UInt8 := dkwX6_brokenNow_0 ++ []
theorem dksX6_brokenNow_0 : cX6_brokenNow.data.toList.drop 0 = dktX6_brokenNow_0 := by decide +kernel
theorem dX6_brokenNow_0 : decode cX6_brokenNow 0 = .ok (.aload_n 0, 1) := dk_42 (dk_at dksX6_brokenNow_0 0 rfl rfl)
theorem dX6_brokenNow_1 : decode cX6_brokenNow 1 = .ok (.iconst 0, 1) := dk_3 (dk_at dksX6_brokenNow_0 1 rfl rfl)
theorem dX6_brokenNow_2 : decode cX6_brokenNow 2 = .ok (.invokevirtual 126, 3) := dk_182 0 126 (dk_at dksX6_brokenNow_0 2 rfl rfl)
theorem dX6_brokenNow_5 : decode cX6_brokenNow 5 = .ok (.aload_n 0, 1) := dk_42 (dk_at dksX6_brokenNow_0 5 rfl rfl)
theorem dX6_brokenNow_6 : decode cX6_brokenNow 6 = .ok (.iconst 0, 1) := dk_3 (dk_at dksX6_brokenNow_0 6 rfl rfl)
theorem dX6_brokenNow_7 : decode cX6_brokenNow 7 = .ok (.invokevirtual 130, 3) := dk_182 0 130 (dk_at dksX6_brokenNow_0 7 rfl rfl)
theorem dX6_brokenNow_10 : decode cX6_brokenNow 10 = .ok (.ireturn, 1) := dk_172 (dk_at dksX6_brokenNow_0 10 rfl rfl)
abbrev cX6_loads : ByteArray := prog_10_method_35_code
def yX6_loads : MethodName := ⟨RX6, "loads", "(I)V"⟩
def dkwX6_loads_1 : List UInt8 := [79, 132, 2, 1, 167, 255, 230, 177]
abbrev dktX6_loads_1 : List UInt8 := dkwX6_loads_1 ++ []
def dkwX6_loads_0 : List UInt8 := [3, 61, 28, 16, 25, 162, 0, 26, 42, 180, 0, 27, 27, 28, 96, 42, 180, 0, 7, 16, 23, 28, 96, 46]
abbrev dktX6_loads_0 : List UInt8 := dkwX6_loads_0 ++ dktX6_loads_1
theorem dksX6_loads_0 : cX6_loads.data.toList.drop 0 = dktX6_loads_0 := by decide +kernel
theorem dksX6_loads_1 : cX6_loads.data.toList.drop 24 = dktX6_loads_1 := dk_seg dksX6_loads_0 24 rfl rfl
theorem dX6_loads_0 : decode cX6_loads 0 = .ok (.iconst 0, 1) := dk_3 (dk_at dksX6_loads_0 0 rfl rfl)
theorem dX6_loads_1 : decode cX6_loads 1 = .ok (.istore_n 2, 1) := dk_61 (dk_at dksX6_loads_0 1 rfl rfl)
theorem dX6_loads_2 : decode cX6_loads 2 = .ok (.iload_n 2, 1) := dk_28 (dk_at dksX6_loads_0 2 rfl rfl)
theorem dX6_loads_3 : decode cX6_loads 3 = .ok (.bipush 25, 2) := dk_16 25 (dk_at dksX6_loads_0 3 rfl rfl)
theorem dX6_loads_5 : decode cX6_loads 5 = .ok (.if_icmp .ge 26, 3) := dk_162 0 26 (dk_at dksX6_loads_0 5 rfl rfl)
theorem dX6_loads_8 : decode cX6_loads 8 = .ok (.aload_n 0, 1) := dk_42 (dk_at dksX6_loads_0 8 rfl rfl)
theorem dX6_loads_9 : decode cX6_loads 9 = .ok (.getfield 27, 3) := dk_180 0 27 (dk_at dksX6_loads_0 9 rfl rfl)
theorem dX6_loads_12 : decode cX6_loads 12 = .ok (.iload_n 1, 1) := dk_27 (dk_at dksX6_loads_0 12 rfl rfl)
theorem dX6_loads_13 : decode cX6_loads 13 = .ok (.iload_n 2, 1) := dk_28 (dk_at dksX6_loads_0 13 rfl rfl)
theorem dX6_loads_14 : decode cX6_loads 14 = .ok (.iadd, 1) := dk_96 (dk_at dksX6_loads_0 14 rfl rfl)
theorem dX6_loads_15 : decode cX6_loads 15 = .ok (.aload_n 0, 1) := dk_42 (dk_at dksX6_loads_0 15 rfl rfl)
theorem dX6_loads_16 : decode cX6_loads 16 = .ok (.getfield 7, 3) := dk_180 0 7 (dk_at dksX6_loads_0 16 rfl rfl)
theorem dX6_loads_19 : decode cX6_loads 19 = .ok (.bipush 23, 2) := dk_16 23 (dk_at dksX6_loads_0 19 rfl rfl)
theorem dX6_loads_21 : decode cX6_loads 21 = .ok (.iload_n 2, 1) := dk_28 (dk_at dksX6_loads_0 21 rfl rfl)
theorem dX6_loads_22 : decode cX6_loads 22 = .ok (.iadd, 1) := dk_96 (dk_at dksX6_loads_0 22 rfl rfl)
theorem dX6_loads_23 : decode cX6_loads 23 = .ok (.iaload, 1) := dk_46 (dk_at dksX6_loads_0 23 rfl rfl)
theorem dX6_loads_24 : decode cX6_loads 24 = .ok (.iastore, 1) := dk_79 (dk_at dksX6_loads_1 0 rfl rfl)
theorem dX6_loads_25 : decode cX6_loads 25 = .ok (.iinc 2 1, 3) := dk_132 2 1 (dk_at dksX6_loads_1 1 rfl rfl)
theorem dX6_loads_28 : decode cX6_loads 28 = .ok (.goto (-26), 3) := dk_167 255 230 (dk_at dksX6_loads_1 4 rfl rfl)
theorem dX6_loads_31 : decode cX6_loads 31 = .ok (.return_, 1) := dk_177 (dk_at dksX6_loads_1 7 rfl rfl)
abbrev cX6_looksAtAll : ByteArray := prog_10_method_32_code
def yX6_looksAtAll : MethodName := ⟨RX6, "looksAtAll", "(I)I"⟩
def dkwX6_looksAtAll_3 : List UInt8 := [132, 3, 1, 167, 255, 188, 28, 172]
abbrev dktX6_looksAtAll_3 : List UInt8 := dkwX6_looksAtAll_3 ++ []
def dkwX6_looksAtAll_2 : List UInt8 := [180, 0, 33, 8, 29, 104, 21, 4, 96, 42, 180, 0, 30, 21, 4, 46, 79, 132, 4, 1, 167, 255, 224]
abbrev dktX6_looksAtAll_2 : List UInt8 := dkwX6_looksAtAll_2 ++ dktX6_looksAtAll_3
def dkwX6_looksAtAll_1 : List UInt8 := [120, 167, 0, 4, 3, 128, 61, 3, 54, 4, 21, 4, 42, 180, 0, 7, 3, 46, 162, 0, 27, 42]
abbrev dktX6_looksAtAll_1 : List UInt8 := dkwX6_looksAtAll_1 ++ dktX6_looksAtAll_2
def dkwX6_looksAtAll_0 : List UInt8 := [3, 61, 3, 62, 29, 42, 182, 0, 77, 162, 0, 66, 28, 42, 27, 29, 182, 0, 119, 154, 0, 9, 4, 29]
abbrev dktX6_looksAtAll_0 : List UInt8 := dkwX6_looksAtAll_0 ++ dktX6_looksAtAll_1
theorem dksX6_looksAtAll_0 : cX6_looksAtAll.data.toList.drop 0 = dktX6_looksAtAll_0 := by decide +kernel
theorem dksX6_looksAtAll_1 : cX6_looksAtAll.data.toList.drop 24 = dktX6_looksAtAll_1 := dk_seg dksX6_looksAtAll_0 24 rfl rfl
theorem dksX6_looksAtAll_2 : cX6_looksAtAll.data.toList.drop 46 = dktX6_looksAtAll_2 := dk_seg dksX6_looksAtAll_1 22 rfl rfl
theorem dksX6_looksAtAll_3 : cX6_looksAtAll.data.toList.drop 69 = dktX6_looksAtAll_3 := dk_seg dksX6_looksAtAll_2 23 rfl rfl
theorem dX6_looksAtAll_0 : decode cX6_looksAtAll 0 = .ok (.iconst 0, 1) := dk_3 (dk_at dksX6_looksAtAll_0 0 rfl rfl)
theorem dX6_looksAtAll_1 : decode cX6_looksAtAll 1 = .ok (.istore_n 2, 1) := dk_61 (dk_at dksX6_looksAtAll_0 1 rfl rfl)
theorem dX6_looksAtAll_2 : decode cX6_looksAtAll 2 = .ok (.iconst 0, 1) := dk_3 (dk_at dksX6_looksAtAll_0 2 rfl rfl)
theorem dX6_looksAtAll_3 : decode cX6_looksAtAll 3 = .ok (.istore_n 3, 1) := dk_62 (dk_at dksX6_looksAtAll_0 3 rfl rfl)
theorem dX6_looksAtAll_4 : decode cX6_looksAtAll 4 = .ok (.iload_n 3, 1) := dk_29 (dk_at dksX6_looksAtAll_0 4 rfl rfl)
theorem dX6_looksAtAll_5 : decode cX6_looksAtAll 5 = .ok (.aload_n 0, 1) := dk_42 (dk_at dksX6_looksAtAll_0 5 rfl rfl)
theorem dX6_looksAtAll_6 : decode cX6_looksAtAll 6 = .ok (.invokevirtual 77, 3) := dk_182 0 77 (dk_at dksX6_looksAtAll_0 6 rfl rfl)
theorem dX6_looksAtAll_9 : decode cX6_looksAtAll 9 = .ok (.if_icmp .ge 66, 3) := dk_162 0 66 (dk_at dksX6_looksAtAll_0 9 rfl rfl)
theorem dX6_looksAtAll_12 : decode cX6_looksAtAll 12 = .ok (.iload_n 2, 1) := dk_28 (dk_at dksX6_looksAtAll_0 12 rfl rfl)
theorem dX6_looksAtAll_13 : decode cX6_looksAtAll 13 = .ok (.aload_n 0, 1) := dk_42 (dk_at dksX6_looksAtAll_0 13 rfl rfl)
theorem dX6_looksAtAll_14 : decode cX6_looksAtAll 14 = .ok (.iload_n 1, 1) := dk_27 (dk_at dksX6_looksAtAll_0 14 rfl rfl)
theorem dX6_looksAtAll_15 : decode cX6_looksAtAll 15 = .ok (.iload_n 3, 1) := dk_29 (dk_at dksX6_looksAtAll_0 15 rfl rfl)
theorem dX6_looksAtAll_16 : decode cX6_looksAtAll 16 = .ok (.invokevirtual 119, 3) := dk_182 0 119 (dk_at dksX6_looksAtAll_0 16 rfl rfl)
theorem dX6_looksAtAll_19 : decode cX6_looksAtAll 19 = .ok (.ifCond .ne 9, 3) := dk_154 0 9 (dk_at dksX6_looksAtAll_0 19 rfl rfl)
theorem dX6_looksAtAll_22 : decode cX6_looksAtAll 22 = .ok (.iconst 1, 1) := dk_4 (dk_at dksX6_looksAtAll_0 22 rfl rfl)
theorem dX6_looksAtAll_23 : decode cX6_looksAtAll 23 = .ok (.iload_n 3, 1) := dk_29 (dk_at dksX6_looksAtAll_0 23 rfl rfl)
theorem dX6_looksAtAll_24 : decode cX6_looksAtAll 24 = .ok (.ishl, 1) := dk_120 (dk_at dksX6_looksAtAll_1 0 rfl rfl)
theorem dX6_looksAtAll_25 : decode cX6_looksAtAll 25 = .ok (.goto 4, 3) := dk_167 0 4 (dk_at dksX6_looksAtAll_1 1 rfl rfl)
theorem dX6_looksAtAll_28 : decode cX6_looksAtAll 28 = .ok (.iconst 0, 1) := dk_3 (dk_at dksX6_looksAtAll_1 4 rfl rfl)
theorem dX6_looksAtAll_29 : decode cX6_looksAtAll 29 = .ok (.ior, 1) := dk_128 (dk_at dksX6_looksAtAll_1 5 rfl rfl)
theorem dX6_looksAtAll_30 : decode cX6_looksAtAll 30 = .ok (.istore_n 2, 1) := dk_61 (dk_at dksX6_looksAtAll_1 6 rfl rfl)
theorem dX6_looksAtAll_31 : decode cX6_looksAtAll 31 = .ok (.iconst 0, 1) := dk_3 (dk_at dksX6_looksAtAll_1 7 rfl rfl)
theorem dX6_looksAtAll_32 : decode cX6_looksAtAll 32 = .ok (.istore 4, 2) := dk_54 4 (dk_at dksX6_looksAtAll_1 8 rfl rfl)
theorem dX6_looksAtAll_34 : decode cX6_looksAtAll 34 = .ok (.iload 4, 2) := dk_21 4 (dk_at dksX6_looksAtAll_1 10 rfl rfl)
theorem dX6_looksAtAll_36 : decode cX6_looksAtAll 36 = .ok (.aload_n 0, 1) := dk_42 (dk_at dksX6_looksAtAll_1 12 rfl rfl)
theorem dX6_looksAtAll_37 : decode cX6_looksAtAll 37 = .ok (.getfield 7, 3) := dk_180 0 7 (dk_at dksX6_looksAtAll_1 13 rfl rfl)
theorem dX6_looksAtAll_40 : decode cX6_looksAtAll 40 = .ok (.iconst 0, 1) := dk_3 (dk_at dksX6_looksAtAll_1 16 rfl rfl)
theorem dX6_looksAtAll_41 : decode cX6_looksAtAll 41 = .ok (.iaload, 1) := dk_46 (dk_at dksX6_looksAtAll_1 17 rfl rfl)
theorem dX6_looksAtAll_42 : decode cX6_looksAtAll 42 = .ok (.if_icmp .ge 27, 3) := dk_162 0 27 (dk_at dksX6_looksAtAll_1 18 rfl rfl)
theorem dX6_looksAtAll_45 : decode cX6_looksAtAll 45 = .ok (.aload_n 0, 1) := dk_42 (dk_at dksX6_looksAtAll_1 21 rfl rfl)
theorem dX6_looksAtAll_46 : decode cX6_looksAtAll 46 = .ok (.getfield 33, 3) := dk_180 0 33 (dk_at dksX6_looksAtAll_2 0 rfl rfl)
theorem dX6_looksAtAll_49 : decode cX6_looksAtAll 49 = .ok (.iconst 5, 1) := dk_8 (dk_at dksX6_looksAtAll_2 3 rfl rfl)
theorem dX6_looksAtAll_50 : decode cX6_looksAtAll 50 = .ok (.iload_n 3, 1) := dk_29 (dk_at dksX6_looksAtAll_2 4 rfl rfl)
theorem dX6_looksAtAll_51 : decode cX6_looksAtAll 51 = .ok (.imul, 1) := dk_104 (dk_at dksX6_looksAtAll_2 5 rfl rfl)
theorem dX6_looksAtAll_52 : decode cX6_looksAtAll 52 = .ok (.iload 4, 2) := dk_21 4 (dk_at dksX6_looksAtAll_2 6 rfl rfl)
theorem dX6_looksAtAll_54 : decode cX6_looksAtAll 54 = .ok (.iadd, 1) := dk_96 (dk_at dksX6_looksAtAll_2 8 rfl rfl)
theorem dX6_looksAtAll_55 : decode cX6_looksAtAll 55 = .ok (.aload_n 0, 1) := dk_42 (dk_at dksX6_looksAtAll_2 9 rfl rfl)
theorem dX6_looksAtAll_56 : decode cX6_looksAtAll 56 = .ok (.getfield 30, 3) := dk_180 0 30 (dk_at dksX6_looksAtAll_2 10 rfl rfl)
theorem dX6_looksAtAll_59 : decode cX6_looksAtAll 59 = .ok (.iload 4, 2) := dk_21 4 (dk_at dksX6_looksAtAll_2 13 rfl rfl)
theorem dX6_looksAtAll_61 : decode cX6_looksAtAll 61 = .ok (.iaload, 1) := dk_46 (dk_at dksX6_looksAtAll_2 15 rfl rfl)
theorem dX6_looksAtAll_62 : decode cX6_looksAtAll 62 = .ok (.iastore, 1) := dk_79 (dk_at dksX6_looksAtAll_2 16 rfl rfl)
theorem dX6_looksAtAll_63 : decode cX6_looksAtAll 63 = .ok (.iinc 4 1, 3) := dk_132 4 1 (dk_at dksX6_looksAtAll_2 17 rfl rfl)
theorem dX6_looksAtAll_66 : decode cX6_looksAtAll 66 = .ok (.goto (-32), 3) := dk_167 255 224 (dk_at dksX6_looksAtAll_2 20 rfl rfl)
theorem dX6_looksAtAll_69 : decode cX6_looksAtAll 69 = .ok (.iinc 3 1, 3) := dk_132 3 1 (dk_at dksX6_looksAtAll_3 0 rfl rfl)
theorem dX6_looksAtAll_72 : decode cX6_looksAtAll 72 = .ok (.goto (-68), 3) := dk_167 255 188 (dk_at dksX6_looksAtAll_3 3 rfl rfl)
theorem dX6_looksAtAll_75 : decode cX6_looksAtAll 75 = .ok (.iload_n 2, 1) := dk_28 (dk_at dksX6_looksAtAll_3 6 rfl rfl)
theorem dX6_looksAtAll_76 : decode cX6_looksAtAll 76 = .ok (.ireturn, 1) := dk_172 (dk_at dksX6_looksAtAll_3 7 rfl rfl)
abbrev cX6_looks : ByteArray := prog_10_method_31_code
def yX6_looks : MethodName := ⟨RX6, "looks", "(II)I"⟩
def dkwX6_looks_4 : List UInt8 := [167, 255, 218, 132, 4, 1, 167, 255, 186, 29, 172]
abbrev dktX6_looks_4 : List UInt8 := dkwX6_looks_4 ++ []
def dkwX6_looks_3 : List UInt8 := [21, 5, 92, 46, 4, 42, 180, 0, 21, 8, 21, 4, 104, 21, 5, 96, 46, 120, 128, 79, 132, 5, 1]
abbrev dktX6_looks_3 : List UInt8 := dkwX6_looks_3 ++ dktX6_looks_4
def dkwX6_looks_2 : List UInt8 := [153, 0, 50, 132, 3, 1, 3, 54, 5, 21, 5, 42, 180, 0, 7, 3, 46, 162, 0, 33, 42, 180, 0, 30]
abbrev dktX6_looks_2 : List UInt8 := dkwX6_looks_2 ++ dktX6_looks_3
def dkwX6_looks_1 : List UInt8 := [3, 62, 3, 54, 4, 21, 4, 42, 180, 0, 93, 162, 0, 67, 42, 27, 28, 21, 4, 182, 0, 116]
abbrev dktX6_looks_1 : List UInt8 := dkwX6_looks_1 ++ dktX6_looks_2
def dkwX6_looks_0 : List UInt8 := [42, 182, 0, 113, 3, 62, 29, 8, 162, 0, 16, 42, 180, 0, 30, 29, 3, 79, 132, 3, 1, 167, 255, 241]
abbrev dktX6_looks_0 : List UInt8 := dkwX6_looks_0 ++ dktX6_looks_1
theorem dksX6_looks_0 : cX6_looks.data.toList.drop 0 = dktX6_looks_0 := by decide +kernel
theorem dksX6_looks_1 : cX6_looks.data.toList.drop 24 = dktX6_looks_1 := dk_seg dksX6_looks_0 24 rfl rfl
theorem dksX6_looks_2 : cX6_looks.data.toList.drop 46 = dktX6_looks_2 := dk_seg dksX6_looks_1 22 rfl rfl
theorem dksX6_looks_3 : cX6_looks.data.toList.drop 70 = dktX6_looks_3 := dk_seg dksX6_looks_2 24 rfl rfl
theorem dksX6_looks_4 : cX6_looks.data.toList.drop 93 = dktX6_looks_4 := dk_seg dksX6_looks_3 23 rfl rfl
theorem dX6_looks_0 : decode cX6_looks 0 = .ok (.aload_n 0, 1) := dk_42 (dk_at dksX6_looks_0 0 rfl rfl)
theorem dX6_looks_1 : decode cX6_looks 1 = .ok (.invokevirtual 113, 3) := dk_182 0 113 (dk_at dksX6_looks_0 1 rfl rfl)
theorem dX6_looks_4 : decode cX6_looks 4 = .ok (.iconst 0, 1) := dk_3 (dk_at dksX6_looks_0 4 rfl rfl)
theorem dX6_looks_5 : decode cX6_looks 5 = .ok (.istore_n 3, 1) := dk_62 (dk_at dksX6_looks_0 5 rfl rfl)
theorem dX6_looks_6 : decode cX6_looks 6 = .ok (.iload_n 3, 1) := dk_29 (dk_at dksX6_looks_0 6 rfl rfl)
theorem dX6_looks_7 : decode cX6_looks 7 = .ok (.iconst 5, 1) := dk_8 (dk_at dksX6_looks_0 7 rfl rfl)
theorem dX6_looks_8 : decode cX6_looks 8 = .ok (.if_icmp .ge 16, 3) := dk_162 0 16 (dk_at dksX6_looks_0 8 rfl rfl)
theorem dX6_looks_11 : decode cX6_looks 11 = .ok (.aload_n 0, 1) := dk_42 (dk_at dksX6_looks_0 11 rfl rfl)
theorem dX6_looks_12 : decode cX6_looks 12 = .ok (.getfield 30, 3) := dk_180 0 30 (dk_at dksX6_looks_0 12 rfl rfl)
theorem dX6_looks_15 : decode cX6_looks 15 = .ok (.iload_n 3, 1) := dk_29 (dk_at dksX6_looks_0 15 rfl rfl)
theorem dX6_looks_16 : decode cX6_looks 16 = .ok (.iconst 0, 1) := dk_3 (dk_at dksX6_looks_0 16 rfl rfl)
theorem dX6_looks_17 : decode cX6_looks 17 = .ok (.iastore, 1) := dk_79 (dk_at dksX6_looks_0 17 rfl rfl)
theorem dX6_looks_18 : decode cX6_looks 18 = .ok (.iinc 3 1, 3) := dk_132 3 1 (dk_at dksX6_looks_0 18 rfl rfl)
theorem dX6_looks_21 : decode cX6_looks 21 = .ok (.goto (-15), 3) := dk_167 255 241 (dk_at dksX6_looks_0 21 rfl rfl)
theorem dX6_looks_24 : decode cX6_looks 24 = .ok (.iconst 0, 1) := dk_3 (dk_at dksX6_looks_1 0 rfl rfl)
theorem dX6_looks_25 : decode cX6_looks 25 = .ok (.istore_n 3, 1) := dk_62 (dk_at dksX6_looks_1 1 rfl rfl)
theorem dX6_looks_26 : decode cX6_looks 26 = .ok (.iconst 0, 1) := dk_3 (dk_at dksX6_looks_1 2 rfl rfl)
theorem dX6_looks_27 : decode cX6_looks 27 = .ok (.istore 4, 2) := dk_54 4 (dk_at dksX6_looks_1 3 rfl rfl)
theorem dX6_looks_29 : decode cX6_looks 29 = .ok (.iload 4, 2) := dk_21 4 (dk_at dksX6_looks_1 5 rfl rfl)
theorem dX6_looks_31 : decode cX6_looks 31 = .ok (.aload_n 0, 1) := dk_42 (dk_at dksX6_looks_1 7 rfl rfl)
theorem dX6_looks_32 : decode cX6_looks 32 = .ok (.getfield 93, 3) := dk_180 0 93 (dk_at dksX6_looks_1 8 rfl rfl)
theorem dX6_looks_35 : decode cX6_looks 35 = .ok (.if_icmp .ge 67, 3) := dk_162 0 67 (dk_at dksX6_looks_1 11 rfl rfl)
theorem dX6_looks_38 : decode cX6_looks 38 = .ok (.aload_n 0, 1) := dk_42 (dk_at dksX6_looks_1 14 rfl rfl)
theorem dX6_looks_39 : decode cX6_looks 39 = .ok (.iload_n 1, 1) := dk_27 (dk_at dksX6_looks_1 15 rfl rfl)
theorem dX6_looks_40 : decode cX6_looks 40 = .ok (.iload_n 2, 1) := dk_28 (dk_at dksX6_looks_1 16 rfl rfl)
theorem dX6_looks_41 : decode cX6_looks 41 = .ok (.iload 4, 2) := dk_21 4 (dk_at dksX6_looks_1 17 rfl rfl)
theorem dX6_looks_43 : decode cX6_looks 43 = .ok (.invokevirtual 116, 3) := dk_182 0 116 (dk_at dksX6_looks_1 19 rfl rfl)
theorem dX6_looks_46 : decode cX6_looks 46 = .ok (.ifCond .eq 50, 3) := dk_153 0 50 (dk_at dksX6_looks_2 0 rfl rfl)
theorem dX6_looks_49 : decode cX6_looks 49 = .ok (.iinc 3 1, 3) := dk_132 3 1 (dk_at dksX6_looks_2 3 rfl rfl)
theorem dX6_looks_52 : decode cX6_looks 52 = .ok (.iconst 0, 1) := dk_3 (dk_at dksX6_looks_2 6 rfl rfl)
theorem dX6_looks_53 : decode cX6_looks 53 = .ok (.istore 5, 2) := dk_54 5 (dk_at dksX6_looks_2 7 rfl rfl)
theorem dX6_looks_55 : decode cX6_looks 55 = .ok (.iload 5, 2) := dk_21 5 (dk_at dksX6_looks_2 9 rfl rfl)
theorem dX6_looks_57 : decode cX6_looks 57 = .ok (.aload_n 0, 1) := dk_42 (dk_at dksX6_looks_2 11 rfl rfl)
theorem dX6_looks_58 : decode cX6_looks 58 = .ok (.getfield 7, 3) := dk_180 0 7 (dk_at dksX6_looks_2 12 rfl rfl)
theorem dX6_looks_61 : decode cX6_looks 61 = .ok (.iconst 0, 1) := dk_3 (dk_at dksX6_looks_2 15 rfl rfl)
theorem dX6_looks_62 : decode cX6_looks 62 = .ok (.iaload, 1) := dk_46 (dk_at dksX6_looks_2 16 rfl rfl)
theorem dX6_looks_63 : decode cX6_looks 63 = .ok (.if_icmp .ge 33, 3) := dk_162 0 33 (dk_at dksX6_looks_2 17 rfl rfl)
theorem dX6_looks_66 : decode cX6_looks 66 = .ok (.aload_n 0, 1) := dk_42 (dk_at dksX6_looks_2 20 rfl rfl)
theorem dX6_looks_67 : decode cX6_looks 67 = .ok (.getfield 30, 3) := dk_180 0 30 (dk_at dksX6_looks_2 21 rfl rfl)
theorem dX6_looks_70 : decode cX6_looks 70 = .ok (.iload 5, 2) := dk_21 5 (dk_at dksX6_looks_3 0 rfl rfl)
theorem dX6_looks_72 : decode cX6_looks 72 = .ok (.dup2, 1) := dk_92 (dk_at dksX6_looks_3 2 rfl rfl)
theorem dX6_looks_73 : decode cX6_looks 73 = .ok (.iaload, 1) := dk_46 (dk_at dksX6_looks_3 3 rfl rfl)
theorem dX6_looks_74 : decode cX6_looks 74 = .ok (.iconst 1, 1) := dk_4 (dk_at dksX6_looks_3 4 rfl rfl)
theorem dX6_looks_75 : decode cX6_looks 75 = .ok (.aload_n 0, 1) := dk_42 (dk_at dksX6_looks_3 5 rfl rfl)
theorem dX6_looks_76 : decode cX6_looks 76 = .ok (.getfield 21, 3) := dk_180 0 21 (dk_at dksX6_looks_3 6 rfl rfl)
theorem dX6_looks_79 : decode cX6_looks 79 = .ok (.iconst 5, 1) := dk_8 (dk_at dksX6_looks_3 9 rfl rfl)
theorem dX6_looks_80 : decode cX6_looks 80 = .ok (.iload 4, 2) := dk_21 4 (dk_at dksX6_looks_3 10 rfl rfl)
theorem dX6_looks_82 : decode cX6_looks 82 = .ok (.imul, 1) := dk_104 (dk_at dksX6_looks_3 12 rfl rfl)
theorem dX6_looks_83 : decode cX6_looks 83 = .ok (.iload 5, 2) := dk_21 5 (dk_at dksX6_looks_3 13 rfl rfl)
theorem dX6_looks_85 : decode cX6_looks 85 = .ok (.iadd, 1) := dk_96 (dk_at dksX6_looks_3 15 rfl rfl)
theorem dX6_looks_86 : decode cX6_looks 86 = .ok (.iaload, 1) := dk_46 (dk_at dksX6_looks_3 16 rfl rfl)
theorem dX6_looks_87 : decode cX6_looks 87 = .ok (.ishl, 1) := dk_120 (dk_at dksX6_looks_3 17 rfl rfl)
theorem dX6_looks_88 : decode cX6_looks 88 = .ok (.ior, 1) := dk_128 (dk_at dksX6_looks_3 18 rfl rfl)
theorem dX6_looks_89 : decode cX6_looks 89 = .ok (.iastore, 1) := dk_79 (dk_at dksX6_looks_3 19 rfl rfl)
theorem dX6_looks_90 : decode cX6_looks 90 = .ok (.iinc 5 1, 3) := dk_132 5 1 (dk_at dksX6_looks_3 20 rfl rfl)
theorem dX6_looks_93 : decode cX6_looks 93 = .ok (.goto (-38), 3) := dk_167 255 218 (dk_at dksX6_looks_4 0 rfl rfl)
theorem dX6_looks_96 : decode cX6_looks 96 = .ok (.iinc 4 1, 3) := dk_132 4 1 (dk_at dksX6_looks_4 3 rfl rfl)
theorem dX6_looks_99 : decode cX6_looks 99 = .ok (.goto (-70), 3) := dk_167 255 186 (dk_at dksX6_looks_4 6 rfl rfl)
theorem dX6_looks_102 : decode cX6_looks 102 = .ok (.iload_n 3, 1) := dk_29 (dk_at dksX6_looks_4 9 rfl rfl)
theorem dX6_looks_103 : decode cX6_looks 103 = .ok (.ireturn, 1) := dk_172 (dk_at dksX6_looks_4 10 rfl rfl)
abbrev cX6_fits : ByteArray := prog_10_method_30_code
def yX6_fits : MethodName := ⟨RX6, "fits", "(III)Z"⟩
def dkwX6_fits_5 : List UInt8 := [3, 172]
abbrev dktX6_fits_5 : List UInt8 := dkwX6_fits_5 ++ []
def dkwX6_fits_4 : List UInt8 := [104, 5, 96, 46, 42, 180, 0, 24, 7, 29, 104, 6, 96, 46, 184, 0, 110, 153, 0, 7, 4, 167, 0, 4]
abbrev dktX6_fits_4 : List UInt8 := dkwX6_fits_4 ++ dktX6_fits_5
def dkwX6_fits_3 : List UInt8 := [7, 29, 104, 4, 96, 46, 184, 0, 110, 153, 0, 39, 42, 28, 4, 182, 0, 106, 42, 180, 0, 24, 7, 29]
abbrev dktX6_fits_3 : List UInt8 := dkwX6_fits_3 ++ dktX6_fits_4
def dkwX6_fits_2 : List UInt8 := [132, 4, 1, 167, 255, 209, 42, 28, 3, 182, 0, 106, 42, 180, 0, 24, 7, 29, 104, 46, 42, 180, 0, 24]
abbrev dktX6_fits_2 : List UInt8 := dkwX6_fits_2 ++ dktX6_fits_3
def dkwX6_fits_1 : List UInt8 := [182, 0, 99, 96, 46, 42, 180, 0, 21, 8, 29, 104, 21, 4, 96, 46, 184, 0, 102, 154, 0, 5, 3, 172]
abbrev dktX6_fits_1 : List UInt8 := dkwX6_fits_1 ++ dktX6_fits_2
def dkwX6_fits_0 : List UInt8 := [3, 54, 4, 21, 4, 42, 180, 0, 7, 3, 46, 162, 0, 42, 42, 180, 0, 27, 27, 42, 28, 21, 4]
abbrev dktX6_fits_0 : List UInt8 := dkwX6_fits_0 ++ dktX6_fits_1
theorem dksX6_fits_0 : cX6_fits.data.toList.drop 0 = dktX6_fits_0 := by decide +kernel
theorem dksX6_fits_1 : cX6_fits.data.toList.drop 23 = dktX6_fits_1 := dk_seg dksX6_fits_0 23 rfl rfl
theorem dksX6_fits_2 : cX6_fits.data.toList.drop 47 = dktX6_fits_2 := dk_seg dksX6_fits_1 24 rfl rfl
theorem dksX6_fits_3 : cX6_fits.data.toList.drop 71 = dktX6_fits_3 := dk_seg dksX6_fits_2 24 rfl rfl
theorem dksX6_fits_4 : cX6_fits.data.toList.drop 95 = dktX6_fits_4 := dk_seg dksX6_fits_3 24 rfl rfl
theorem dksX6_fits_5 : cX6_fits.data.toList.drop 119 = dktX6_fits_5 := dk_seg dksX6_fits_4 24 rfl rfl
theorem dX6_fits_0 : decode cX6_fits 0 = .ok (.iconst 0, 1) := dk_3 (dk_at dksX6_fits_0 0 rfl rfl)
theorem dX6_fits_1 : decode cX6_fits 1 = .ok (.istore 4, 2) := dk_54 4 (dk_at dksX6_fits_0 1 rfl rfl)
theorem dX6_fits_3 : decode cX6_fits 3 = .ok (.iload 4, 2) := dk_21 4 (dk_at dksX6_fits_0 3 rfl rfl)
theorem dX6_fits_5 : decode cX6_fits 5 = .ok (.aload_n 0, 1) := dk_42 (dk_at dksX6_fits_0 5 rfl rfl)
theorem dX6_fits_6 : decode cX6_fits 6 = .ok (.getfield 7, 3) := dk_180 0 7 (dk_at dksX6_fits_0 6 rfl rfl)
theorem dX6_fits_9 : decode cX6_fits 9 = .ok (.iconst 0, 1) := dk_3 (dk_at dksX6_fits_0 9 rfl rfl)
theorem dX6_fits_10 : decode cX6_fits 10 = .ok (.iaload, 1) := dk_46 (dk_at dksX6_fits_0 10 rfl rfl)
theorem dX6_fits_11 : decode cX6_fits 11 = .ok (.if_icmp .ge 42, 3) := dk_162 0 42 (dk_at dksX6_fits_0 11 rfl rfl)
theorem dX6_fits_14 : decode cX6_fits 14 = .ok (.aload_n 0, 1) := dk_42 (dk_at dksX6_fits_0 14 rfl rfl)
theorem dX6_fits_15 : decode cX6_fits 15 = .ok (.getfield 27, 3) := dk_180 0 27 (dk_at dksX6_fits_0 15 rfl rfl)
theorem dX6_fits_18 : decode cX6_fits 18 = .ok (.iload_n 1, 1) := dk_27 (dk_at dksX6_fits_0 18 rfl rfl)
theorem dX6_fits_19 : decode cX6_fits 19 = .ok (.aload_n 0, 1) := dk_42 (dk_at dksX6_fits_0 19 rfl rfl)
theorem dX6_fits_20 : decode cX6_fits 20 = .ok (.iload_n 2, 1) := dk_28 (dk_at dksX6_fits_0 20 rfl rfl)
theorem dX6_fits_21 : decode cX6_fits 21 = .ok (.iload 4, 2) := dk_21 4 (dk_at dksX6_fits_0 21 rfl rfl)
theorem dX6_fits_23 : decode cX6_fits 23 = .ok (.invokevirtual 99, 3) := dk_182 0 99 (dk_at dksX6_fits_1 0 rfl rfl)
theorem dX6_fits_26 : decode cX6_fits 26 = .ok (.iadd, 1) := dk_96 (dk_at dksX6_fits_1 3 rfl rfl)
theorem dX6_fits_27 : decode cX6_fits 27 = .ok (.iaload, 1) := dk_46 (dk_at dksX6_fits_1 4 rfl rfl)
theorem dX6_fits_28 : decode cX6_fits 28 = .ok (.aload_n 0, 1) := dk_42 (dk_at dksX6_fits_1 5 rfl rfl)
theorem dX6_fits_29 : decode cX6_fits 29 = .ok (.getfield 21, 3) := dk_180 0 21 (dk_at dksX6_fits_1 6 rfl rfl)
theorem dX6_fits_32 : decode cX6_fits 32 = .ok (.iconst 5, 1) := dk_8 (dk_at dksX6_fits_1 9 rfl rfl)
theorem dX6_fits_33 : decode cX6_fits 33 = .ok (.iload_n 3, 1) := dk_29 (dk_at dksX6_fits_1 10 rfl rfl)
theorem dX6_fits_34 : decode cX6_fits 34 = .ok (.imul, 1) := dk_104 (dk_at dksX6_fits_1 11 rfl rfl)
theorem dX6_fits_35 : decode cX6_fits 35 = .ok (.iload 4, 2) := dk_21 4 (dk_at dksX6_fits_1 12 rfl rfl)
theorem dX6_fits_37 : decode cX6_fits 37 = .ok (.iadd, 1) := dk_96 (dk_at dksX6_fits_1 14 rfl rfl)
theorem dX6_fits_38 : decode cX6_fits 38 = .ok (.iaload, 1) := dk_46 (dk_at dksX6_fits_1 15 rfl rfl)
theorem dX6_fits_39 : decode cX6_fits 39 = .ok (.invokestatic 102, 3) := dk_184 0 102 (dk_at dksX6_fits_1 16 rfl rfl)
theorem dX6_fits_42 : decode cX6_fits 42 = .ok (.ifCond .ne 5, 3) := dk_154 0 5 (dk_at dksX6_fits_1 19 rfl rfl)
theorem dX6_fits_45 : decode cX6_fits 45 = .ok (.iconst 0, 1) := dk_3 (dk_at dksX6_fits_1 22 rfl rfl)
theorem dX6_fits_46 : decode cX6_fits 46 = .ok (.ireturn, 1) := dk_172 (dk_at dksX6_fits_1 23 rfl rfl)
theorem dX6_fits_47 : decode cX6_fits 47 = .ok (.iinc 4 1, 3) := dk_132 4 1 (dk_at dksX6_fits_2 0 rfl rfl)
theorem dX6_fits_50 : decode cX6_fits 50 = .ok (.goto (-47), 3) := dk_167 255 209 (dk_at dksX6_fits_2 3 rfl rfl)
theorem dX6_fits_53 : decode cX6_fits 53 = .ok (.aload_n 0, 1) := dk_42 (dk_at dksX6_fits_2 6 rfl rfl)
theorem dX6_fits_54 : decode cX6_fits 54 = .ok (.iload_n 2, 1) := dk_28 (dk_at dksX6_fits_2 7 rfl rfl)
theorem dX6_fits_55 : decode cX6_fits 55 = .ok (.iconst 0, 1) := dk_3 (dk_at dksX6_fits_2 8 rfl rfl)
theorem dX6_fits_56 : decode cX6_fits 56 = .ok (.invokevirtual 106, 3) := dk_182 0 106 (dk_at dksX6_fits_2 9 rfl rfl)
theorem dX6_fits_59 : decode cX6_fits 59 = .ok (.aload_n 0, 1) := dk_42 (dk_at dksX6_fits_2 12 rfl rfl)
theorem dX6_fits_60 : decode cX6_fits 60 = .ok (.getfield 24, 3) := dk_180 0 24 (dk_at dksX6_fits_2 13 rfl rfl)
theorem dX6_fits_63 : decode cX6_fits 63 = .ok (.iconst 4, 1) := dk_7 (dk_at dksX6_fits_2 16 rfl rfl)
theorem dX6_fits_64 : decode cX6_fits 64 = .ok (.iload_n 3, 1) := dk_29 (dk_at dksX6_fits_2 17 rfl rfl)
theorem dX6_fits_65 : decode cX6_fits 65 = .ok (.imul, 1) := dk_104 (dk_at dksX6_fits_2 18 rfl rfl)
theorem dX6_fits_66 : decode cX6_fits 66 = .ok (.iaload, 1) := dk_46 (dk_at dksX6_fits_2 19 rfl rfl)
theorem dX6_fits_67 : decode cX6_fits 67 = .ok (.aload_n 0, 1) := dk_42 (dk_at dksX6_fits_2 20 rfl rfl)
theorem dX6_fits_68 : decode cX6_fits 68 = .ok (.getfield 24, 3) := dk_180 0 24 (dk_at dksX6_fits_2 21 rfl rfl)
theorem dX6_fits_71 : decode cX6_fits 71 = .ok (.iconst 4, 1) := dk_7 (dk_at dksX6_fits_3 0 rfl rfl)
theorem dX6_fits_72 : decode cX6_fits 72 = .ok (.iload_n 3, 1) := dk_29 (dk_at dksX6_fits_3 1 rfl rfl)
theorem dX6_fits_73 : decode cX6_fits 73 = .ok (.imul, 1) := dk_104 (dk_at dksX6_fits_3 2 rfl rfl)
theorem dX6_fits_74 : decode cX6_fits 74 = .ok (.iconst 1, 1) := dk_4 (dk_at dksX6_fits_3 3 rfl rfl)
theorem dX6_fits_75 : decode cX6_fits 75 = .ok (.iadd, 1) := dk_96 (dk_at dksX6_fits_3 4 rfl rfl)
theorem dX6_fits_76 : decode cX6_fits 76 = .ok (.iaload, 1) := dk_46 (dk_at dksX6_fits_3 5 rfl rfl)
theorem dX6_fits_77 : decode cX6_fits 77 = .ok (.invokestatic 110, 3) := dk_184 0 110 (dk_at dksX6_fits_3 6 rfl rfl)
theorem dX6_fits_80 : decode cX6_fits 80 = .ok (.ifCond .eq 39, 3) := dk_153 0 39 (dk_at dksX6_fits_3 9 rfl rfl)
theorem dX6_fits_83 : decode cX6_fits 83 = .ok (.aload_n 0, 1) := dk_42 (dk_at dksX6_fits_3 12 rfl rfl)
theorem dX6_fits_84 : decode cX6_fits 84 = .ok (.iload_n 2, 1) := dk_28 (dk_at dksX6_fits_3 13 rfl rfl)
theorem dX6_fits_85 : decode cX6_fits 85 = .ok (.iconst 1, 1) := dk_4 (dk_at dksX6_fits_3 14 rfl rfl)
theorem dX6_fits_86 : decode cX6_fits 86 = .ok (.invokevirtual 106, 3) := dk_182 0 106 (dk_at dksX6_fits_3 15 rfl rfl)
theorem dX6_fits_89 : decode cX6_fits 89 = .ok (.aload_n 0, 1) := dk_42 (dk_at dksX6_fits_3 18 rfl rfl)
theorem dX6_fits_90 : decode cX6_fits 90 = .ok (.getfield 24, 3) := dk_180 0 24 (dk_at dksX6_fits_3 19 rfl rfl)
theorem dX6_fits_93 : decode cX6_fits 93 = .ok (.iconst 4, 1) := dk_7 (dk_at dksX6_fits_3 22 rfl rfl)
theorem dX6_fits_94 : decode cX6_fits 94 = .ok (.iload_n 3, 1) := dk_29 (dk_at dksX6_fits_3 23 rfl rfl)
theorem dX6_fits_95 : decode cX6_fits 95 = .ok (.imul, 1) := dk_104 (dk_at dksX6_fits_4 0 rfl rfl)
theorem dX6_fits_96 : decode cX6_fits 96 = .ok (.iconst 2, 1) := dk_5 (dk_at dksX6_fits_4 1 rfl rfl)
theorem dX6_fits_97 : decode cX6_fits 97 = .ok (.iadd, 1) := dk_96 (dk_at dksX6_fits_4 2 rfl rfl)
theorem dX6_fits_98 : decode cX6_fits 98 = .ok (.iaload, 1) := dk_46 (dk_at dksX6_fits_4 3 rfl rfl)
theorem dX6_fits_99 : decode cX6_fits 99 = .ok (.aload_n 0, 1) := dk_42 (dk_at dksX6_fits_4 4 rfl rfl)
theorem dX6_fits_100 : decode cX6_fits 100 = .ok (.getfield 24, 3) := dk_180 0 24 (dk_at dksX6_fits_4 5 rfl rfl)
theorem dX6_fits_103 : decode cX6_fits 103 = .ok (.iconst 4, 1) := dk_7 (dk_at dksX6_fits_4 8 rfl rfl)
theorem dX6_fits_104 : decode cX6_fits 104 = .ok (.iload_n 3, 1) := dk_29 (dk_at dksX6_fits_4 9 rfl rfl)
theorem dX6_fits_105 : decode cX6_fits 105 = .ok (.imul, 1) := dk_104 (dk_at dksX6_fits_4 10 rfl rfl)
theorem dX6_fits_106 : decode cX6_fits 106 = .ok (.iconst 3, 1) := dk_6 (dk_at dksX6_fits_4 11 rfl rfl)
theorem dX6_fits_107 : decode cX6_fits 107 = .ok (.iadd, 1) := dk_96 (dk_at dksX6_fits_4 12 rfl rfl)
theorem dX6_fits_108 : decode cX6_fits 108 = .ok (.iaload, 1) := dk_46 (dk_at dksX6_fits_4 13 rfl rfl)
theorem dX6_fits_109 : decode cX6_fits 109 = .ok (.invokestatic 110, 3) := dk_184 0 110 (dk_at dksX6_fits_4 14 rfl rfl)
theorem dX6_fits_112 : decode cX6_fits 112 = .ok (.ifCond .eq 7, 3) := dk_153 0 7 (dk_at dksX6_fits_4 17 rfl rfl)
theorem dX6_fits_115 : decode cX6_fits 115 = .ok (.iconst 1, 1) := dk_4 (dk_at dksX6_fits_4 20 rfl rfl)
theorem dX6_fits_116 : decode cX6_fits 116 = .ok (.goto 4, 3) := dk_167 0 4 (dk_at dksX6_fits_4 21 rfl rfl)
theorem dX6_fits_119 : decode cX6_fits 119 = .ok (.iconst 0, 1) := dk_3 (dk_at dksX6_fits_5 0 rfl rfl)
theorem dX6_fits_120 : decode cX6_fits 120 = .ok (.ireturn, 1) := dk_172 (dk_at dksX6_fits_5 1 rfl rfl)
abbrev cX6_tellingOf : ByteArray := prog_10_method_24_code
def yX6_tellingOf : MethodName := ⟨RX6, "tellingOf", "(IZ)I"⟩
def dkwX6_tellingOf_2 : List UInt8 := [104, 162, 0, 15, 42, 180, 0, 7, 6, 21, 4, 96, 46, 167, 0, 4, 3, 172]
abbrev dktX6_tellingOf_2 : List UInt8 := dkwX6_tellingOf_2 ++ []
def dkwX6_tellingOf_1 : List UInt8 := [96, 167, 0, 18, 28, 153, 0, 9, 5, 29, 104, 167, 0, 4, 3, 27, 96, 29, 100, 54, 4, 27, 5, 29]
abbrev dktX6_tellingOf_1 : List UInt8 := dkwX6_tellingOf_1 ++ dktX6_tellingOf_2
def dkwX6_tellingOf_0 : List UInt8 := [42, 180, 0, 7, 3, 46, 62, 27, 29, 162, 0, 19, 28, 153, 0, 7, 29, 167, 0, 6, 6, 29, 104, 27]
abbrev dktX6_tellingOf_0 : List UInt8 := dkwX6_tellingOf_0 ++ dktX6_tellingOf_1
theorem dksX6_tellingOf_0 : cX6_tellingOf.data.toList.drop 0 = dktX6_tellingOf_0 := by decide +kernel
theorem dksX6_tellingOf_1 : cX6_tellingOf.data.toList.drop 24 = dktX6_tellingOf_1 := dk_seg dksX6_tellingOf_0 24 rfl rfl
theorem dksX6_tellingOf_2 : cX6_tellingOf.data.toList.drop 48 = dktX6_tellingOf_2 := dk_seg dksX6_tellingOf_1 24 rfl rfl
theorem dX6_tellingOf_0 : decode cX6_tellingOf 0 = .ok (.aload_n 0, 1) := dk_42 (dk_at dksX6_tellingOf_0 0 rfl rfl)
theorem dX6_tellingOf_1 : decode cX6_tellingOf 1 = .ok (.getfield 7, 3) := dk_180 0 7 (dk_at dksX6_tellingOf_0 1 rfl rfl)
theorem dX6_tellingOf_4 : decode cX6_tellingOf 4 = .ok (.iconst 0, 1) := dk_3 (dk_at dksX6_tellingOf_0 4 rfl rfl)
theorem dX6_tellingOf_5 : decode cX6_tellingOf 5 = .ok (.iaload, 1) := dk_46 (dk_at dksX6_tellingOf_0 5 rfl rfl)
theorem dX6_tellingOf_6 : decode cX6_tellingOf 6 = .ok (.istore_n 3, 1) := dk_62 (dk_at dksX6_tellingOf_0 6 rfl rfl)
theorem dX6_tellingOf_7 : decode cX6_tellingOf 7 = .ok (.iload_n 1, 1) := dk_27 (dk_at dksX6_tellingOf_0 7 rfl rfl)
theorem dX6_tellingOf_8 : decode cX6_tellingOf 8 = .ok (.iload_n 3, 1) := dk_29 (dk_at dksX6_tellingOf_0 8 rfl rfl)
theorem dX6_tellingOf_9 : decode cX6_tellingOf 9 = .ok (.if_icmp .ge 19, 3) := dk_162 0 19 (dk_at dksX6_tellingOf_0 9 rfl rfl)
theorem dX6_tellingOf_12 : decode cX6_tellingOf 12 = .ok (.iload_n 2, 1) := dk_28 (dk_at dksX6_tellingOf_0 12 rfl rfl)
theorem dX6_tellingOf_13 : decode cX6_tellingOf 13 = .ok (.ifCond .eq 7, 3) := dk_153 0 7 (dk_at dksX6_tellingOf_0 13 rfl rfl)
theorem dX6_tellingOf_16 : decode cX6_tellingOf 16 = .ok (.iload_n 3, 1) := dk_29 (dk_at dksX6_tellingOf_0 16 rfl rfl)
theorem dX6_tellingOf_17 : decode cX6_tellingOf 17 = .ok (.goto 6, 3) := dk_167 0 6 (dk_at dksX6_tellingOf_0 17 rfl rfl)
theorem dX6_tellingOf_20 : decode cX6_tellingOf 20 = .ok (.iconst 3, 1) := dk_6 (dk_at dksX6_tellingOf_0 20 rfl rfl)
theorem dX6_tellingOf_21 : decode cX6_tellingOf 21 = .ok (.iload_n 3, 1) := dk_29 (dk_at dksX6_tellingOf_0 21 rfl rfl)
theorem dX6_tellingOf_22 : decode cX6_tellingOf 22 = .ok (.imul, 1) := dk_104 (dk_at dksX6_tellingOf_0 22 rfl rfl)
theorem dX6_tellingOf_23 : decode cX6_tellingOf 23 = .ok (.iload_n 1, 1) := dk_27 (dk_at dksX6_tellingOf_0 23 rfl rfl)
theorem dX6_tellingOf_24 : decode cX6_tellingOf 24 = .ok (.iadd, 1) := dk_96 (dk_at dksX6_tellingOf_1 0 rfl rfl)
theorem dX6_tellingOf_25 : decode cX6_tellingOf 25 = .ok (.goto 18, 3) := dk_167 0 18 (dk_at dksX6_tellingOf_1 1 rfl rfl)
theorem dX6_tellingOf_28 : decode cX6_tellingOf 28 = .ok (.iload_n 2, 1) := dk_28 (dk_at dksX6_tellingOf_1 4 rfl rfl)
theorem dX6_tellingOf_29 : decode cX6_tellingOf 29 = .ok (.ifCond .eq 9, 3) := dk_153 0 9 (dk_at dksX6_tellingOf_1 5 rfl rfl)
theorem dX6_tellingOf_32 : decode cX6_tellingOf 32 = .ok (.iconst 2, 1) := dk_5 (dk_at dksX6_tellingOf_1 8 rfl rfl)
theorem dX6_tellingOf_33 : decode cX6_tellingOf 33 = .ok (.iload_n 3, 1) := dk_29 (dk_at dksX6_tellingOf_1 9 rfl rfl)
theorem dX6_tellingOf_34 : decode cX6_tellingOf 34 = .ok (.imul, 1) := dk_104 (dk_at dksX6_tellingOf_1 10 rfl rfl)
theorem dX6_tellingOf_35 : decode cX6_tellingOf 35 = .ok (.goto 4, 3) := dk_167 0 4 (dk_at dksX6_tellingOf_1 11 rfl rfl)
theorem dX6_tellingOf_38 : decode cX6_tellingOf 38 = .ok (.iconst 0, 1) := dk_3 (dk_at dksX6_tellingOf_1 14 rfl rfl)
theorem dX6_tellingOf_39 : decode cX6_tellingOf 39 = .ok (.iload_n 1, 1) := dk_27 (dk_at dksX6_tellingOf_1 15 rfl rfl)
theorem dX6_tellingOf_40 : decode cX6_tellingOf 40 = .ok (.iadd, 1) := dk_96 (dk_at dksX6_tellingOf_1 16 rfl rfl)
theorem dX6_tellingOf_41 : decode cX6_tellingOf 41 = .ok (.iload_n 3, 1) := dk_29 (dk_at dksX6_tellingOf_1 17 rfl rfl)
theorem dX6_tellingOf_42 : decode cX6_tellingOf 42 = .ok (.isub, 1) := dk_100 (dk_at dksX6_tellingOf_1 18 rfl rfl)
theorem dX6_tellingOf_43 : decode cX6_tellingOf 43 = .ok (.istore 4, 2) := dk_54 4 (dk_at dksX6_tellingOf_1 19 rfl rfl)
theorem dX6_tellingOf_45 : decode cX6_tellingOf 45 = .ok (.iload_n 1, 1) := dk_27 (dk_at dksX6_tellingOf_1 21 rfl rfl)
theorem dX6_tellingOf_46 : decode cX6_tellingOf 46 = .ok (.iconst 2, 1) := dk_5 (dk_at dksX6_tellingOf_1 22 rfl rfl)
theorem dX6_tellingOf_47 : decode cX6_tellingOf 47 = .ok (.iload_n 3, 1) := dk_29 (dk_at dksX6_tellingOf_1 23 rfl rfl)
theorem dX6_tellingOf_48 : decode cX6_tellingOf 48 = .ok (.imul, 1) := dk_104 (dk_at dksX6_tellingOf_2 0 rfl rfl)
theorem dX6_tellingOf_49 : decode cX6_tellingOf 49 = .ok (.if_icmp .ge 15, 3) := dk_162 0 15 (dk_at dksX6_tellingOf_2 1 rfl rfl)
theorem dX6_tellingOf_52 : decode cX6_tellingOf 52 = .ok (.aload_n 0, 1) := dk_42 (dk_at dksX6_tellingOf_2 4 rfl rfl)
theorem dX6_tellingOf_53 : decode cX6_tellingOf 53 = .ok (.getfield 7, 3) := dk_180 0 7 (dk_at dksX6_tellingOf_2 5 rfl rfl)
theorem dX6_tellingOf_56 : decode cX6_tellingOf 56 = .ok (.iconst 3, 1) := dk_6 (dk_at dksX6_tellingOf_2 8 rfl rfl)
theorem dX6_tellingOf_57 : decode cX6_tellingOf 57 = .ok (.iload 4, 2) := dk_21 4 (dk_at dksX6_tellingOf_2 9 rfl rfl)
theorem dX6_tellingOf_59 : decode cX6_tellingOf 59 = .ok (.iadd, 1) := dk_96 (dk_at dksX6_tellingOf_2 11 rfl rfl)
theorem dX6_tellingOf_60 : decode cX6_tellingOf 60 = .ok (.iaload, 1) := dk_46 (dk_at dksX6_tellingOf_2 12 rfl rfl)
theorem dX6_tellingOf_61 : decode cX6_tellingOf 61 = .ok (.goto 4, 3) := dk_167 0 4 (dk_at dksX6_tellingOf_2 13 rfl rfl)
theorem dX6_tellingOf_64 : decode cX6_tellingOf 64 = .ok (.iconst 0, 1) := dk_3 (dk_at dksX6_tellingOf_2 16 rfl rfl)
theorem dX6_tellingOf_65 : decode cX6_tellingOf 65 = .ok (.ireturn, 1) := dk_172 (dk_at dksX6_tellingOf_2 17 rfl rfl)
abbrev cX6_isTrue : ByteArray := prog_10_method_25_code
def yX6_isTrue : MethodName := ⟨RX6, "isTrue", "(III)Z"⟩
def dkwX6_isTrue_1 : List UInt8 := [4, 167, 0, 4, 3, 172]
abbrev dktX6_isTrue_1 : List UInt8 := dkwX6_isTrue_1 ++ []
def dkwX6_isTrue_0 : List UInt8 := [26, 153, 0, 23, 26, 4, 100, 5, 108, 26, 5, 112, 4, 160, 0, 7, 27, 167, 0, 4, 28, 160, 0, 7]
abbrev dktX6_isTrue_0 : List UInt8 := dkwX6_isTrue_0 ++ dktX6_isTrue_1
theorem dksX6_isTrue_0 : cX6_isTrue.data.toList.drop 0 = dktX6_isTrue_0 := by decide +kernel
theorem dksX6_isTrue_1 : cX6_isTrue.data.toList.drop 24 = dktX6_isTrue_1 := dk_seg dksX6_isTrue_0 24 rfl rfl
theorem dX6_isTrue_0 : decode cX6_isTrue 0 = .ok (.iload_n 0, 1) := dk_26 (dk_at dksX6_isTrue_0 0 rfl rfl)
theorem dX6_isTrue_1 : decode cX6_isTrue 1 = .ok (.ifCond .eq 23, 3) := dk_153 0 23 (dk_at dksX6_isTrue_0 1 rfl rfl)
theorem dX6_isTrue_4 : decode cX6_isTrue 4 = .ok (.iload_n 0, 1) := dk_26 (dk_at dksX6_isTrue_0 4 rfl rfl)
theorem dX6_isTrue_5 : decode cX6_isTrue 5 = .ok (.iconst 1, 1) := dk_4 (dk_at dksX6_isTrue_0 5 rfl rfl)
theorem dX6_isTrue_6 : decode cX6_isTrue 6 = .ok (.isub, 1) := dk_100 (dk_at dksX6_isTrue_0 6 rfl rfl)
theorem dX6_isTrue_7 : decode cX6_isTrue 7 = .ok (.iconst 2, 1) := dk_5 (dk_at dksX6_isTrue_0 7 rfl rfl)
theorem dX6_isTrue_8 : decode cX6_isTrue 8 = .ok (.idiv, 1) := dk_108 (dk_at dksX6_isTrue_0 8 rfl rfl)
theorem dX6_isTrue_9 : decode cX6_isTrue 9 = .ok (.iload_n 0, 1) := dk_26 (dk_at dksX6_isTrue_0 9 rfl rfl)
theorem dX6_isTrue_10 : decode cX6_isTrue 10 = .ok (.iconst 2, 1) := dk_5 (dk_at dksX6_isTrue_0 10 rfl rfl)
theorem dX6_isTrue_11 : decode cX6_isTrue 11 = .ok (.irem, 1) := dk_112 (dk_at dksX6_isTrue_0 11 rfl rfl)
theorem dX6_isTrue_12 : decode cX6_isTrue 12 = .ok (.iconst 1, 1) := dk_4 (dk_at dksX6_isTrue_0 12 rfl rfl)
theorem dX6_isTrue_13 : decode cX6_isTrue 13 = .ok (.if_icmp .ne 7, 3) := dk_160 0 7 (dk_at dksX6_isTrue_0 13 rfl rfl)
theorem dX6_isTrue_16 : decode cX6_isTrue 16 = .ok (.iload_n 1, 1) := dk_27 (dk_at dksX6_isTrue_0 16 rfl rfl)
theorem dX6_isTrue_17 : decode cX6_isTrue 17 = .ok (.goto 4, 3) := dk_167 0 4 (dk_at dksX6_isTrue_0 17 rfl rfl)
theorem dX6_isTrue_20 : decode cX6_isTrue 20 = .ok (.iload_n 2, 1) := dk_28 (dk_at dksX6_isTrue_0 20 rfl rfl)
theorem dX6_isTrue_21 : decode cX6_isTrue 21 = .ok (.if_icmp .ne 7, 3) := dk_160 0 7 (dk_at dksX6_isTrue_0 21 rfl rfl)
theorem dX6_isTrue_24 : decode cX6_isTrue 24 = .ok (.iconst 1, 1) := dk_4 (dk_at dksX6_isTrue_1 0 rfl rfl)
theorem dX6_isTrue_25 : decode cX6_isTrue 25 = .ok (.goto 4, 3) := dk_167 0 4 (dk_at dksX6_isTrue_1 1 rfl rfl)
theorem dX6_isTrue_28 : decode cX6_isTrue 28 = .ok (.iconst 0, 1) := dk_3 (dk_at dksX6_isTrue_1 4 rfl rfl)
theorem dX6_isTrue_29 : decode cX6_isTrue 29 = .ok (.ireturn, 1) := dk_172 (dk_at dksX6_isTrue_1 5 rfl rfl)
abbrev cX6_isSolved : ByteArray := prog_10_method_86_code
def yX6_isSolved : MethodName := ⟨RX6, "isSolved", "()Z"⟩
def dkwX6_isSolved_0 : List UInt8 := [42, 3, 181, 0, 55, 42, 3, 182, 0, 126, 42, 3, 182, 1, 7, 172]
abbrev dktX6_isSolved_0 : List UInt8 := dkwX6_isSolved_0 ++ []
theorem dksX6_isSolved_0 : cX6_isSolved.data.toList.drop 0 = dktX6_isSolved_0 := by decide +kernel
theorem dX6_isSolved_0 : decode cX6_isSolved 0 = .ok (.aload_n 0, 1) := dk_42 (dk_at dksX6_isSolved_0 0 rfl rfl)
theorem dX6_isSolved_1 : decode cX6_isSolved 1 = .ok (.iconst 0, 1) := dk_3 (dk_at dksX6_isSolved_0 1 rfl rfl)
theorem dX6_isSolved_2 : decode cX6_isSolved 2 = .ok (.putfield 55, 3) := dk_181 0 55 (dk_at dksX6_isSolved_0 2 rfl rfl)
theorem dX6_isSolved_5 : decode cX6_isSolved 5 = .ok (.aload_n 0, 1) := dk_42 (dk_at dksX6_isSolved_0 5 rfl rfl)
theorem dX6_isSolved_6 : decode cX6_isSolved 6 = .ok (.iconst 0, 1) := dk_3 (dk_at dksX6_isSolved_0 6 rfl rfl)
theorem dX6_isSolved_7 : decode cX6_isSolved 7 = .ok (.invokevirtual 126, 3) := dk_182 0 126 (dk_at dksX6_isSolved_0 7 rfl rfl)
theorem dX6_isSolved_10 : decode cX6_isSolved 10 = .ok (.aload_n 0, 1) := dk_42 (dk_at dksX6_isSolved_0 10 rfl rfl)
theorem dX6_isSolved_11 : decode cX6_isSolved 11 = .ok (.iconst 0, 1) := dk_3 (dk_at dksX6_isSolved_0 11 rfl rfl)
theorem dX6_isSolved_12 : decode cX6_isSolved 12 = .ok (.invokevirtual 263, 3) := dk_182 1 7 (dk_at dksX6_isSolved_0 12 rfl rfl)
theorem dX6_isSolved_15 : decode cX6_isSolved 15 = .ok (.ireturn, 1) := dk_172 (dk_at dksX6_isSolved_0 15 rfl rfl)
abbrev cX6_isSolution : ByteArray := prog_10_method_38_code
def yX6_isSolution : MethodName := ⟨RX6, "isSolution", "(I)Z"⟩
def dkwX6_isSolution_2 : List UInt8 := [27, 182, 0, 130, 154, 0, 7, 4, 167, 0, 4, 3, 172]
abbrev dktX6_isSolution_2 : List UInt8 := dkwX6_isSolution_2 ++ []
def dkwX6_isSolution_1 : List UInt8 := [46, 182, 0, 136, 153, 0, 7, 4, 167, 0, 4, 3, 61, 132, 3, 1, 167, 255, 220, 28, 153, 0, 15, 42]
abbrev dktX6_isSolution_1 : List UInt8 := dkwX6_isSolution_1 ++ dktX6_isSolution_2
def dkwX6_isSolution_0 : List UInt8 := [4, 61, 3, 62, 29, 42, 182, 0, 66, 162, 0, 34, 28, 153, 0, 22, 42, 42, 180, 0, 27, 27, 29, 96]
abbrev dktX6_isSolution_0 : List UInt8 := dkwX6_isSolution_0 ++ dktX6_isSolution_1
theorem dksX6_isSolution_0 : cX6_isSolution.data.toList.drop 0 = dktX6_isSolution_0 := by decide +kernel
theorem dksX6_isSolution_1 : cX6_isSolution.data.toList.drop 24 = dktX6_isSolution_1 := dk_seg dksX6_isSolution_0 24 rfl rfl
theorem dksX6_isSolution_2 : cX6_isSolution.data.toList.drop 48 = dktX6_isSolution_2 := dk_seg dksX6_isSolution_1 24 rfl rfl
theorem dX6_isSolution_0 : decode cX6_isSolution 0 = .ok (.iconst 1, 1) := dk_4 (dk_at dksX6_isSolution_0 0 rfl rfl)
theorem dX6_isSolution_1 : decode cX6_isSolution 1 = .ok (.istore_n 2, 1) := dk_61 (dk_at dksX6_isSolution_0 1 rfl rfl)
theorem dX6_isSolution_2 : decode cX6_isSolution 2 = .ok (.iconst 0, 1) := dk_3 (dk_at dksX6_isSolution_0 2 rfl rfl)
theorem dX6_isSolution_3 : decode cX6_isSolution 3 = .ok (.istore_n 3, 1) := dk_62 (dk_at dksX6_isSolution_0 3 rfl rfl)
theorem dX6_isSolution_4 : decode cX6_isSolution 4 = .ok (.iload_n 3, 1) := dk_29 (dk_at dksX6_isSolution_0 4 rfl rfl)
theorem dX6_isSolution_5 : decode cX6_isSolution 5 = .ok (.aload_n 0, 1) := dk_42 (dk_at dksX6_isSolution_0 5 rfl rfl)
theorem dX6_isSolution_6 : decode cX6_isSolution 6 = .ok (.invokevirtual 66, 3) := dk_182 0 66 (dk_at dksX6_isSolution_0 6 rfl rfl)
theorem dX6_isSolution_9 : decode cX6_isSolution 9 = .ok (.if_icmp .ge 34, 3) := dk_162 0 34 (dk_at dksX6_isSolution_0 9 rfl rfl)
theorem dX6_isSolution_12 : decode cX6_isSolution 12 = .ok (.iload_n 2, 1) := dk_28 (dk_at dksX6_isSolution_0 12 rfl rfl)
theorem dX6_isSolution_13 : decode cX6_isSolution 13 = .ok (.ifCond .eq 22, 3) := dk_153 0 22 (dk_at dksX6_isSolution_0 13 rfl rfl)
theorem dX6_isSolution_16 : decode cX6_isSolution 16 = .ok (.aload_n 0, 1) := dk_42 (dk_at dksX6_isSolution_0 16 rfl rfl)
theorem dX6_isSolution_17 : decode cX6_isSolution 17 = .ok (.aload_n 0, 1) := dk_42 (dk_at dksX6_isSolution_0 17 rfl rfl)
theorem dX6_isSolution_18 : decode cX6_isSolution 18 = .ok (.getfield 27, 3) := dk_180 0 27 (dk_at dksX6_isSolution_0 18 rfl rfl)
theorem dX6_isSolution_21 : decode cX6_isSolution 21 = .ok (.iload_n 1, 1) := dk_27 (dk_at dksX6_isSolution_0 21 rfl rfl)
theorem dX6_isSolution_22 : decode cX6_isSolution 22 = .ok (.iload_n 3, 1) := dk_29 (dk_at dksX6_isSolution_0 22 rfl rfl)
theorem dX6_isSolution_23 : decode cX6_isSolution 23 = .ok (.iadd, 1) := dk_96 (dk_at dksX6_isSolution_0 23 rfl rfl)
theorem dX6_isSolution_24 : decode cX6_isSolution 24 = .ok (.iaload, 1) := dk_46 (dk_at dksX6_isSolution_1 0 rfl rfl)
theorem dX6_isSolution_25 : decode cX6_isSolution 25 = .ok (.invokevirtual 136, 3) := dk_182 0 136 (dk_at dksX6_isSolution_1 1 rfl rfl)
theorem dX6_isSolution_28 : decode cX6_isSolution 28 = .ok (.ifCond .eq 7, 3) := dk_153 0 7 (dk_at dksX6_isSolution_1 4 rfl rfl)
theorem dX6_isSolution_31 : decode cX6_isSolution 31 = .ok (.iconst 1, 1) := dk_4 (dk_at dksX6_isSolution_1 7 rfl rfl)
theorem dX6_isSolution_32 : decode cX6_isSolution 32 = .ok (.goto 4, 3) := dk_167 0 4 (dk_at dksX6_isSolution_1 8 rfl rfl)
theorem dX6_isSolution_35 : decode cX6_isSolution 35 = .ok (.iconst 0, 1) := dk_3 (dk_at dksX6_isSolution_1 11 rfl rfl)
theorem dX6_isSolution_36 : decode cX6_isSolution 36 = .ok (.istore_n 2, 1) := dk_61 (dk_at dksX6_isSolution_1 12 rfl rfl)
theorem dX6_isSolution_37 : decode cX6_isSolution 37 = .ok (.iinc 3 1, 3) := dk_132 3 1 (dk_at dksX6_isSolution_1 13 rfl rfl)
theorem dX6_isSolution_40 : decode cX6_isSolution 40 = .ok (.goto (-36), 3) := dk_167 255 220 (dk_at dksX6_isSolution_1 16 rfl rfl)
theorem dX6_isSolution_43 : decode cX6_isSolution 43 = .ok (.iload_n 2, 1) := dk_28 (dk_at dksX6_isSolution_1 19 rfl rfl)
theorem dX6_isSolution_44 : decode cX6_isSolution 44 = .ok (.ifCond .eq 15, 3) := dk_153 0 15 (dk_at dksX6_isSolution_1 20 rfl rfl)
theorem dX6_isSolution_47 : decode cX6_isSolution 47 = .ok (.aload_n 0, 1) := dk_42 (dk_at dksX6_isSolution_1 23 rfl rfl)
theorem dX6_isSolution_48 : decode cX6_isSolution 48 = .ok (.iload_n 1, 1) := dk_27 (dk_at dksX6_isSolution_2 0 rfl rfl)
theorem dX6_isSolution_49 : decode cX6_isSolution 49 = .ok (.invokevirtual 130, 3) := dk_182 0 130 (dk_at dksX6_isSolution_2 1 rfl rfl)
theorem dX6_isSolution_52 : decode cX6_isSolution 52 = .ok (.ifCond .ne 7, 3) := dk_154 0 7 (dk_at dksX6_isSolution_2 4 rfl rfl)
theorem dX6_isSolution_55 : decode cX6_isSolution 55 = .ok (.iconst 1, 1) := dk_4 (dk_at dksX6_isSolution_2 7 rfl rfl)
theorem dX6_isSolution_56 : decode cX6_isSolution 56 = .ok (.goto 4, 3) := dk_167 0 4 (dk_at dksX6_isSolution_2 8 rfl rfl)
theorem dX6_isSolution_59 : decode cX6_isSolution 59 = .ok (.iconst 0, 1) := dk_3 (dk_at dksX6_isSolution_2 11 rfl rfl)
theorem dX6_isSolution_60 : decode cX6_isSolution 60 = .ok (.ireturn, 1) := dk_172 (dk_at dksX6_isSolution_2 12 rfl rfl)
abbrev cX6_arrangements : ByteArray := prog_10_method_87_code
def yX6_arrangements : MethodName := ⟨RX6, "arrangements", "(I)I"⟩
def dkwX6_arrangements_1 : List UInt8 := [182, 0, 119, 167, 0, 4, 3, 172]
abbrev dktX6_arrangements_1 : List UInt8 := dkwX6_arrangements_1 ++ []
def dkwX6_arrangements_0 : List UInt8 := [42, 3, 182, 0, 126, 42, 42, 27, 182, 0, 245, 4, 4, 182, 0, 210, 153, 0, 12, 42, 3, 27]
abbrev dktX6_arrangements_0 : List UInt8 := dkwX6_arrangements_0 ++ dktX6_arrangements_1
theorem dksX6_arrangements_0 : cX6_arrangements.data.toList.drop 0 = dktX6_arrangements_0 := by decide +kernel
theorem dksX6_arrangements_1 : cX6_arrangements.data.toList.drop 22 = dktX6_arrangements_1 := dk_seg dksX6_arrangements_0 22 rfl rfl
theorem dX6_arrangements_0 : decode cX6_arrangements 0 = .ok (.aload_n 0, 1) := dk_42 (dk_at dksX6_arrangements_0 0 rfl rfl)
theorem dX6_arrangements_1 : decode cX6_arrangements 1 = .ok (.iconst 0, 1) := dk_3 (dk_at dksX6_arrangements_0 1 rfl rfl)
theorem dX6_arrangements_2 : decode cX6_arrangements 2 = .ok (.invokevirtual 126, 3) := dk_182 0 126 (dk_at dksX6_arrangements_0 2 rfl rfl)
theorem dX6_arrangements_5 : decode cX6_arrangements 5 = .ok (.aload_n 0, 1) := dk_42 (dk_at dksX6_arrangements_0 5 rfl rfl)
theorem dX6_arrangements_6 : decode cX6_arrangements 6 = .ok (.aload_n 0, 1) := dk_42 (dk_at dksX6_arrangements_0 6 rfl rfl)
theorem dX6_arrangements_7 : decode cX6_arrangements 7 = .ok (.iload_n 1, 1) := dk_27 (dk_at dksX6_arrangements_0 7 rfl rfl)
theorem dX6_arrangements_8 : decode cX6_arrangements 8 = .ok (.invokevirtual 245, 3) := dk_182 0 245 (dk_at dksX6_arrangements_0 8 rfl rfl)
theorem dX6_arrangements_11 : decode cX6_arrangements 11 = .ok (.iconst 1, 1) := dk_4 (dk_at dksX6_arrangements_0 11 rfl rfl)
theorem dX6_arrangements_12 : decode cX6_arrangements 12 = .ok (.iconst 1, 1) := dk_4 (dk_at dksX6_arrangements_0 12 rfl rfl)
theorem dX6_arrangements_13 : decode cX6_arrangements 13 = .ok (.invokevirtual 210, 3) := dk_182 0 210 (dk_at dksX6_arrangements_0 13 rfl rfl)
theorem dX6_arrangements_16 : decode cX6_arrangements 16 = .ok (.ifCond .eq 12, 3) := dk_153 0 12 (dk_at dksX6_arrangements_0 16 rfl rfl)
theorem dX6_arrangements_19 : decode cX6_arrangements 19 = .ok (.aload_n 0, 1) := dk_42 (dk_at dksX6_arrangements_0 19 rfl rfl)
theorem dX6_arrangements_20 : decode cX6_arrangements 20 = .ok (.iconst 0, 1) := dk_3 (dk_at dksX6_arrangements_0 20 rfl rfl)
theorem dX6_arrangements_21 : decode cX6_arrangements 21 = .ok (.iload_n 1, 1) := dk_27 (dk_at dksX6_arrangements_0 21 rfl rfl)
theorem dX6_arrangements_22 : decode cX6_arrangements 22 = .ok (.invokevirtual 119, 3) := dk_182 0 119 (dk_at dksX6_arrangements_1 0 rfl rfl)
theorem dX6_arrangements_25 : decode cX6_arrangements 25 = .ok (.goto 4, 3) := dk_167 0 4 (dk_at dksX6_arrangements_1 3 rfl rfl)
theorem dX6_arrangements_28 : decode cX6_arrangements 28 = .ok (.iconst 0, 1) := dk_3 (dk_at dksX6_arrangements_1 6 rfl rfl)
theorem dX6_arrangements_29 : decode cX6_arrangements 29 = .ok (.ireturn, 1) := dk_172 (dk_at dksX6_arrangements_1 7 rfl rfl)
abbrev cX6_arrangementsByCells : ByteArray := prog_10_method_89_code
def yX6_arrangementsByCells : MethodName := ⟨RX6, "arrangementsByCells", "(I)I"⟩
def dkwX6_arrangementsByCells_0 : List UInt8 := [42, 42, 27, 182, 0, 245, 4, 4, 182, 0, 210, 153, 0, 11, 42, 27, 182, 1, 10, 167, 0, 4, 3, 172]
abbrev dktX6_arrangementsByCells_0 : List UInt8 := dkwX6_arrangementsByCells_0 ++ []
theorem dksX6_arrangementsByCells_0 : cX6_arrangementsByCells.data.toList.drop 0 = dktX6_arrangementsByCells_0 := by decide +kernel
theorem dX6_arrangementsByCells_0 : decode cX6_arrangementsByCells 0 = .ok (.aload_n 0, 1) := dk_42 (dk_at dksX6_arrangementsByCells_0 0 rfl rfl)
theorem dX6_arrangementsByCells_1 : decode cX6_arrangementsByCells 1 = .ok (.aload_n 0, 1) := dk_42 (dk_at dksX6_arrangementsByCells_0 1 rfl rfl)
theorem dX6_arrangementsByCells_2 : decode cX6_arrangementsByCells 2 = .ok (.iload_n 1, 1) := dk_27 (dk_at dksX6_arrangementsByCells_0 2 rfl rfl)
theorem dX6_arrangementsByCells_3 : decode cX6_arrangementsByCells 3 = .ok (.invokevirtual 245, 3) := dk_182 0 245 (dk_at dksX6_arrangementsByCells_0 3 rfl rfl)
theorem dX6_arrangementsByCells_6 : decode cX6_arrangementsByCells 6 = .ok (.iconst 1, 1) := dk_4 (dk_at dksX6_arrangementsByCells_0 6 rfl rfl)
theorem dX6_arrangementsByCells_7 : decode cX6_arrangementsByCells 7 = .ok (.iconst 1, 1) := dk_4 (dk_at dksX6_arrangementsByCells_0 7 rfl rfl)
theorem dX6_arrangementsByCells_8 : decode cX6_arrangementsByCells 8 = .ok (.invokevirtual 210, 3) := dk_182 0 210 (dk_at dksX6_arrangementsByCells_0 8 rfl rfl)
theorem dX6_arrangementsByCells_11 : decode cX6_arrangementsByCells 11 = .ok (.ifCond .eq 11, 3) := dk_153 0 11 (dk_at dksX6_arrangementsByCells_0 11 rfl rfl)
theorem dX6_arrangementsByCells_14 : decode cX6_arrangementsByCells 14 = .ok (.aload_n 0, 1) := dk_42 (dk_at dksX6_arrangementsByCells_0 14 rfl rfl)
theorem dX6_arrangementsByCells_15 : decode cX6_arrangementsByCells 15 = .ok (.iload_n 1, 1) := dk_27 (dk_at dksX6_arrangementsByCells_0 15 rfl rfl)
theorem dX6_arrangementsByCells_16 : decode cX6_arrangementsByCells 16 = .ok (.invokevirtual 266, 3) := dk_182 1 10 (dk_at dksX6_arrangementsByCells_0 16 rfl rfl)
theorem dX6_arrangementsByCells_19 : decode cX6_arrangementsByCells 19 = .ok (.goto 4, 3) := dk_167 0 4 (dk_at dksX6_arrangementsByCells_0 19 rfl rfl)
theorem dX6_arrangementsByCells_22 : decode cX6_arrangementsByCells 22 = .ok (.iconst 0, 1) := dk_3 (dk_at dksX6_arrangementsByCells_0 22 rfl rfl)
theorem dX6_arrangementsByCells_23 : decode cX6_arrangementsByCells 23 = .ok (.ireturn, 1) := dk_172 (dk_at dksX6_arrangementsByCells_0 23 rfl rfl)
abbrev cX6_counts : ByteArray := prog_10_method_88_code
def yX6_counts : MethodName := ⟨RX6, "counts", "(I)I"⟩
def dkwX6_counts_13 : List UInt8 := [132, 4, 1, 167, 255, 2, 42, 180, 0, 45, 4, 29, 120, 4, 100, 46, 172]
abbrev dktX6_counts_13 : List UInt8 := dkwX6_counts_13 ++ []
def dkwX6_counts_12 : List UInt8 := [162, 0, 23, 42, 180, 0, 45, 21, 6, 42, 180, 0, 48, 21, 6, 46, 79, 132, 6, 1, 167, 255, 232]
abbrev dktX6_counts_12 : List UInt8 := dkwX6_counts_12 ++ dktX6_counts_13
def dkwX6_counts_11 : List UInt8 := [3, 96, 79, 132, 8, 1, 167, 255, 153, 132, 6, 1, 167, 255, 88, 3, 54, 6, 21, 6, 16, 16]
abbrev dktX6_counts_11 : List UInt8 := dkwX6_counts_11 ++ dktX6_counts_12
def dkwX6_counts_10 : List UInt8 := [21, 6, 4, 21, 8, 120, 128, 92, 46, 21, 9, 153, 0, 13, 42, 180, 0, 45, 21, 6, 46, 167, 0, 4]
abbrev dktX6_counts_10 : List UInt8 := dkwX6_counts_10 ++ dktX6_counts_11
def dkwX6_counts_9 : List UInt8 := [29, 4, 100, 21, 7, 100, 184, 0, 200, 153, 0, 7, 4, 167, 0, 4, 3, 54, 9, 42, 180, 0, 48]
abbrev dktX6_counts_9 : List UInt8 := dkwX6_counts_9 ++ dktX6_counts_10
def dkwX6_counts_8 : List UInt8 := [42, 27, 3, 182, 0, 106, 21, 8, 21, 7, 184, 0, 200, 153, 0, 27, 42, 27, 4, 182, 0, 106, 21, 8]
abbrev dktX6_counts_8 : List UInt8 := dkwX6_counts_8 ++ dktX6_counts_9
def dkwX6_counts_7 : List UInt8 := [29, 162, 0, 103, 21, 5, 21, 8, 184, 0, 102, 153, 0, 53, 21, 6, 21, 8, 184, 0, 102, 154, 0, 43]
abbrev dktX6_counts_7 : List UInt8 := dkwX6_counts_7 ++ dktX6_counts_8
def dkwX6_counts_6 : List UInt8 := [28, 29, 100, 162, 0, 13, 42, 180, 0, 45, 21, 6, 46, 167, 0, 4, 3, 96, 79, 3, 54, 8, 21, 8]
abbrev dktX6_counts_6 : List UInt8 := dkwX6_counts_6 ++ dktX6_counts_7
def dkwX6_counts_5 : List UInt8 := [54, 7, 42, 180, 0, 48, 21, 6, 92, 46, 21, 5, 29, 184, 0, 102, 153, 0, 24, 21, 4, 21, 7, 100]
abbrev dktX6_counts_5 : List UInt8 := dkwX6_counts_5 ++ dktX6_counts_6
def dkwX6_counts_4 : List UInt8 := [79, 132, 6, 1, 167, 255, 238, 3, 54, 6, 21, 6, 4, 29, 120, 162, 0, 166, 21, 6, 184, 0, 133]
abbrev dktX6_counts_4 : List UInt8 := dkwX6_counts_4 ++ dktX6_counts_5
def dkwX6_counts_3 : List UInt8 := [182, 0, 99, 96, 46, 54, 5, 3, 54, 6, 21, 6, 16, 16, 162, 0, 17, 42, 180, 0, 48, 21, 6, 3]
abbrev dktX6_counts_3 : List UInt8 := dkwX6_counts_3 ++ dktX6_counts_4
def dkwX6_counts_2 : List UInt8 := [167, 255, 226, 3, 54, 4, 21, 4, 28, 162, 0, 254, 42, 180, 0, 7, 16, 23, 42, 27, 21, 4]
abbrev dktX6_counts_2 : List UInt8 := dkwX6_counts_2 ++ dktX6_counts_3
def dkwX6_counts_1 : List UInt8 := [42, 180, 0, 45, 21, 4, 21, 4, 154, 0, 7, 4, 167, 0, 4, 3, 184, 0, 80, 79, 132, 4, 1]
abbrev dktX6_counts_1 : List UInt8 := dkwX6_counts_1 ++ dktX6_counts_2
def dkwX6_counts_0 : List UInt8 := [42, 180, 0, 7, 3, 46, 61, 42, 180, 0, 7, 4, 46, 62, 3, 54, 4, 21, 4, 16, 16, 162, 0, 29]
abbrev dktX6_counts_0 : List UInt8 := dkwX6_counts_0 ++ dktX6_counts_1
theorem dksX6_counts_0 : cX6_counts.data.toList.drop 0 = dktX6_counts_0 := by decide +kernel
theorem dksX6_counts_1 : cX6_counts.data.toList.drop 24 = dktX6_counts_1 := dk_seg dksX6_counts_0 24 rfl rfl
theorem dksX6_counts_2 : cX6_counts.data.toList.drop 47 = dktX6_counts_2 := dk_seg dksX6_counts_1 23 rfl rfl
theorem dksX6_counts_3 : cX6_counts.data.toList.drop 69 = dktX6_counts_3 := dk_seg dksX6_counts_2 22 rfl rfl
theorem dksX6_counts_4 : cX6_counts.data.toList.drop 93 = dktX6_counts_4 := dk_seg dksX6_counts_3 24 rfl rfl
theorem dksX6_counts_5 : cX6_counts.data.toList.drop 116 = dktX6_counts_5 := dk_seg dksX6_counts_4 23 rfl rfl
theorem dksX6_counts_6 : cX6_counts.data.toList.drop 140 = dktX6_counts_6 := dk_seg dksX6_counts_5 24 rfl rfl
theorem dksX6_counts_7 : cX6_counts.data.toList.drop 164 = dktX6_counts_7 := dk_seg dksX6_counts_6 24 rfl rfl
theorem dksX6_counts_8 : cX6_counts.data.toList.drop 188 = dktX6_counts_8 := dk_seg dksX6_counts_7 24 rfl rfl
theorem dksX6_counts_9 : cX6_counts.data.toList.drop 212 = dktX6_counts_9 := dk_seg dksX6_counts_8 24 rfl rfl
theorem dksX6_counts_10 : cX6_counts.data.toList.drop 235 = dktX6_counts_10 := dk_seg dksX6_counts_9 23 rfl rfl
theorem dksX6_counts_11 : cX6_counts.data.toList.drop 259 = dktX6_counts_11 := dk_seg dksX6_counts_10 24 rfl rfl
theorem dksX6_counts_12 : cX6_counts.data.toList.drop 281 = dktX6_counts_12 := dk_seg dksX6_counts_11 22 rfl rfl
theorem dksX6_counts_13 : cX6_counts.data.toList.drop 304 = dktX6_counts_13 := dk_seg dksX6_counts_12 23 rfl rfl
theorem dX6_counts_0 : decode cX6_counts 0 = .ok (.aload_n 0, 1) := dk_42 (dk_at dksX6_counts_0 0 rfl rfl)
theorem dX6_counts_1 : decode cX6_counts 1 = .ok (.getfield 7, 3) := dk_180 0 7 (dk_at dksX6_counts_0 1 rfl rfl)
theorem dX6_counts_4 : decode cX6_counts 4 = .ok (.iconst 0, 1) := dk_3 (dk_at dksX6_counts_0 4 rfl rfl)
theorem dX6_counts_5 : decode cX6_counts 5 = .ok (.iaload, 1) := dk_46 (dk_at dksX6_counts_0 5 rfl rfl)
theorem dX6_counts_6 : decode cX6_counts 6 = .ok (.istore_n 2, 1) := dk_61 (dk_at dksX6_counts_0 6 rfl rfl)
theorem dX6_counts_7 : decode cX6_counts 7 = .ok (.aload_n 0, 1) := dk_42 (dk_at dksX6_counts_0 7 rfl rfl)
theorem dX6_counts_8 : decode cX6_counts 8 = .ok (.getfield 7, 3) := dk_180 0 7 (dk_at dksX6_counts_0 8 rfl rfl)
theorem dX6_counts_11 : decode cX6_counts 11 = .ok (.iconst 1, 1) := dk_4 (dk_at dksX6_counts_0 11 rfl rfl)
theorem dX6_counts_12 : decode cX6_counts 12 = .ok (.iaload, 1) := dk_46 (dk_at dksX6_counts_0 12 rfl rfl)
theorem dX6_counts_13 : decode cX6_counts 13 = .ok (.istore_n 3, 1) := dk_62 (dk_at dksX6_counts_0 13 rfl rfl)
theorem dX6_counts_14 : decode cX6_counts 14 = .ok (.iconst 0, 1) := dk_3 (dk_at dksX6_counts_0 14 rfl rfl)
theorem dX6_counts_15 : decode cX6_counts 15 = .ok (.istore 4, 2) := dk_54 4 (dk_at dksX6_counts_0 15 rfl rfl)
theorem dX6_counts_17 : decode cX6_counts 17 = .ok (.iload 4, 2) := dk_21 4 (dk_at dksX6_counts_0 17 rfl rfl)
theorem dX6_counts_19 : decode cX6_counts 19 = .ok (.bipush 16, 2) := dk_16 16 (dk_at dksX6_counts_0 19 rfl rfl)
theorem dX6_counts_21 : decode cX6_counts 21 = .ok (.if_icmp .ge 29, 3) := dk_162 0 29 (dk_at dksX6_counts_0 21 rfl rfl)
theorem dX6_counts_24 : decode cX6_counts 24 = .ok (.aload_n 0, 1) := dk_42 (dk_at dksX6_counts_1 0 rfl rfl)
theorem dX6_counts_25 : decode cX6_counts 25 = .ok (.getfield 45, 3) := dk_180 0 45 (dk_at dksX6_counts_1 1 rfl rfl)
theorem dX6_counts_28 : decode cX6_counts 28 = .ok (.iload 4, 2) := dk_21 4 (dk_at dksX6_counts_1 4 rfl rfl)
theorem dX6_counts_30 : decode cX6_counts 30 = .ok (.iload 4, 2) := dk_21 4 (dk_at dksX6_counts_1 6 rfl rfl)
theorem dX6_counts_32 : decode cX6_counts 32 = .ok (.ifCond .ne 7, 3) := dk_154 0 7 (dk_at dksX6_counts_1 8 rfl rfl)
theorem dX6_counts_35 : decode cX6_counts 35 = .ok (.iconst 1, 1) := dk_4 (dk_at dksX6_counts_1 11 rfl rfl)
theorem dX6_counts_36 : decode cX6_counts 36 = .ok (.goto 4, 3) := dk_167 0 4 (dk_at dksX6_counts_1 12 rfl rfl)
theorem dX6_counts_39 : decode cX6_counts 39 = .ok (.iconst 0, 1) := dk_3 (dk_at dksX6_counts_1 15 rfl rfl)
theorem dX6_counts_40 : decode cX6_counts 40 = .ok (.invokestatic 80, 3) := dk_184 0 80 (dk_at dksX6_counts_1 16 rfl rfl)
theorem dX6_counts_43 : decode cX6_counts 43 = .ok (.iastore, 1) := dk_79 (dk_at dksX6_counts_1 19 rfl rfl)
theorem dX6_counts_44 : decode cX6_counts 44 = .ok (.iinc 4 1, 3) := dk_132 4 1 (dk_at dksX6_counts_1 20 rfl rfl)
theorem dX6_counts_47 : decode cX6_counts 47 = .ok (.goto (-30), 3) := dk_167 255 226 (dk_at dksX6_counts_2 0 rfl rfl)
theorem dX6_counts_50 : decode cX6_counts 50 = .ok (.iconst 0, 1) := dk_3 (dk_at dksX6_counts_2 3 rfl rfl)
theorem dX6_counts_51 : decode cX6_counts 51 = .ok (.istore 4, 2) := dk_54 4 (dk_at dksX6_counts_2 4 rfl rfl)
theorem dX6_counts_53 : decode cX6_counts 53 = .ok (.iload 4, 2) := dk_21 4 (dk_at dksX6_counts_2 6 rfl rfl)
theorem dX6_counts_55 : decode cX6_counts 55 = .ok (.iload_n 2, 1) := dk_28 (dk_at dksX6_counts_2 8 rfl rfl)
theorem dX6_counts_56 : decode cX6_counts 56 = .ok (.if_icmp .ge 254, 3) := dk_162 0 254 (dk_at dksX6_counts_2 9 rfl rfl)
theorem dX6_counts_59 : decode cX6_counts 59 = .ok (.aload_n 0, 1) := dk_42 (dk_at dksX6_counts_2 12 rfl rfl)
theorem dX6_counts_60 : decode cX6_counts 60 = .ok (.getfield 7, 3) := dk_180 0 7 (dk_at dksX6_counts_2 13 rfl rfl)
theorem dX6_counts_63 : decode cX6_counts 63 = .ok (.bipush 23, 2) := dk_16 23 (dk_at dksX6_counts_2 16 rfl rfl)
theorem dX6_counts_65 : decode cX6_counts 65 = .ok (.aload_n 0, 1) := dk_42 (dk_at dksX6_counts_2 18 rfl rfl)
theorem dX6_counts_66 : decode cX6_counts 66 = .ok (.iload_n 1, 1) := dk_27 (dk_at dksX6_counts_2 19 rfl rfl)
theorem dX6_counts_67 : decode cX6_counts 67 = .ok (.iload 4, 2) := dk_21 4 (dk_at dksX6_counts_2 20 rfl rfl)
theorem dX6_counts_69 : decode cX6_counts 69 = .ok (.invokevirtual 99, 3) := dk_182 0 99 (dk_at dksX6_counts_3 0 rfl rfl)
theorem dX6_counts_72 : decode cX6_counts 72 = .ok (.iadd, 1) := dk_96 (dk_at dksX6_counts_3 3 rfl rfl)
theorem dX6_counts_73 : decode cX6_counts 73 = .ok (.iaload, 1) := dk_46 (dk_at dksX6_counts_3 4 rfl rfl)
theorem dX6_counts_74 : decode cX6_counts 74 = .ok (.istore 5, 2) := dk_54 5 (dk_at dksX6_counts_3 5 rfl rfl)
theorem dX6_counts_76 : decode cX6_counts 76 = .ok (.iconst 0, 1) := dk_3 (dk_at dksX6_counts_3 7 rfl rfl)
theorem dX6_counts_77 : decode cX6_counts 77 = .ok (.istore 6, 2) := dk_54 6 (dk_at dksX6_counts_3 8 rfl rfl)
theorem dX6_counts_79 : decode cX6_counts 79 = .ok (.iload 6, 2) := dk_21 6 (dk_at dksX6_counts_3 10 rfl rfl)
theorem dX6_counts_81 : decode cX6_counts 81 = .ok (.bipush 16, 2) := dk_16 16 (dk_at dksX6_counts_3 12 rfl rfl)
theorem dX6_counts_83 : decode cX6_counts 83 = .ok (.if_icmp .ge 17, 3) := dk_162 0 17 (dk_at dksX6_counts_3 14 rfl rfl)
theorem dX6_counts_86 : decode cX6_counts 86 = .ok (.aload_n 0, 1) := dk_42 (dk_at dksX6_counts_3 17 rfl rfl)
theorem dX6_counts_87 : decode cX6_counts 87 = .ok (.getfield 48, 3) := dk_180 0 48 (dk_at dksX6_counts_3 18 rfl rfl)
theorem dX6_counts_90 : decode cX6_counts 90 = .ok (.iload 6, 2) := dk_21 6 (dk_at dksX6_counts_3 21 rfl rfl)
theorem dX6_counts_92 : decode cX6_counts 92 = .ok (.iconst 0, 1) := dk_3 (dk_at dksX6_counts_3 23 rfl rfl)
theorem dX6_counts_93 : decode cX6_counts 93 = .ok (.iastore, 1) := dk_79 (dk_at dksX6_counts_4 0 rfl rfl)
theorem dX6_counts_94 : decode cX6_counts 94 = .ok (.iinc 6 1, 3) := dk_132 6 1 (dk_at dksX6_counts_4 1 rfl rfl)
theorem dX6_counts_97 : decode cX6_counts 97 = .ok (.goto (-18), 3) := dk_167 255 238 (dk_at dksX6_counts_4 4 rfl rfl)
theorem dX6_counts_100 : decode cX6_counts 100 = .ok (.iconst 0, 1) := dk_3 (dk_at dksX6_counts_4 7 rfl rfl)
theorem dX6_counts_101 : decode cX6_counts 101 = .ok (.istore 6, 2) := dk_54 6 (dk_at dksX6_counts_4 8 rfl rfl)
theorem dX6_counts_103 : decode cX6_counts 103 = .ok (.iload 6, 2) := dk_21 6 (dk_at dksX6_counts_4 10 rfl rfl)
theorem dX6_counts_105 : decode cX6_counts 105 = .ok (.iconst 1, 1) := dk_4 (dk_at dksX6_counts_4 12 rfl rfl)
theorem dX6_counts_106 : decode cX6_counts 106 = .ok (.iload_n 3, 1) := dk_29 (dk_at dksX6_counts_4 13 rfl rfl)
theorem dX6_counts_107 : decode cX6_counts 107 = .ok (.ishl, 1) := dk_120 (dk_at dksX6_counts_4 14 rfl rfl)
theorem dX6_counts_108 : decode cX6_counts 108 = .ok (.if_icmp .ge 166, 3) := dk_162 0 166 (dk_at dksX6_counts_4 15 rfl rfl)
theorem dX6_counts_111 : decode cX6_counts 111 = .ok (.iload 6, 2) := dk_21 6 (dk_at dksX6_counts_4 18 rfl rfl)
theorem dX6_counts_113 : decode cX6_counts 113 = .ok (.invokestatic 133, 3) := dk_184 0 133 (dk_at dksX6_counts_4 20 rfl rfl)
theorem dX6_counts_116 : decode cX6_counts 116 = .ok (.istore 7, 2) := dk_54 7 (dk_at dksX6_counts_5 0 rfl rfl)
theorem dX6_counts_118 : decode cX6_counts 118 = .ok (.aload_n 0, 1) := dk_42 (dk_at dksX6_counts_5 2 rfl rfl)
theorem dX6_counts_119 : decode cX6_counts 119 = .ok (.getfield 48, 3) := dk_180 0 48 (dk_at dksX6_counts_5 3 rfl rfl)
theorem dX6_counts_122 : decode cX6_counts 122 = .ok (.iload 6, 2) := dk_21 6 (dk_at dksX6_counts_5 6 rfl rfl)
theorem dX6_counts_124 : decode cX6_counts 124 = .ok (.dup2, 1) := dk_92 (dk_at dksX6_counts_5 8 rfl rfl)
theorem dX6_counts_125 : decode cX6_counts 125 = .ok (.iaload, 1) := dk_46 (dk_at dksX6_counts_5 9 rfl rfl)
theorem dX6_counts_126 : decode cX6_counts 126 = .ok (.iload 5, 2) := dk_21 5 (dk_at dksX6_counts_5 10 rfl rfl)
theorem dX6_counts_128 : decode cX6_counts 128 = .ok (.iload_n 3, 1) := dk_29 (dk_at dksX6_counts_5 12 rfl rfl)
theorem dX6_counts_129 : decode cX6_counts 129 = .ok (.invokestatic 102, 3) := dk_184 0 102 (dk_at dksX6_counts_5 13 rfl rfl)
theorem dX6_counts_132 : decode cX6_counts 132 = .ok (.ifCond .eq 24, 3) := dk_153 0 24 (dk_at dksX6_counts_5 16 rfl rfl)
theorem dX6_counts_135 : decode cX6_counts 135 = .ok (.iload 4, 2) := dk_21 4 (dk_at dksX6_counts_5 19 rfl rfl)
theorem dX6_counts_137 : decode cX6_counts 137 = .ok (.iload 7, 2) := dk_21 7 (dk_at dksX6_counts_5 21 rfl rfl)
theorem dX6_counts_139 : decode cX6_counts 139 = .ok (.isub, 1) := dk_100 (dk_at dksX6_counts_5 23 rfl rfl)
theorem dX6_counts_140 : decode cX6_counts 140 = .ok (.iload_n 2, 1) := dk_28 (dk_at dksX6_counts_6 0 rfl rfl)
theorem dX6_counts_141 : decode cX6_counts 141 = .ok (.iload_n 3, 1) := dk_29 (dk_at dksX6_counts_6 1 rfl rfl)
theorem dX6_counts_142 : decode cX6_counts 142 = .ok (.isub, 1) := dk_100 (dk_at dksX6_counts_6 2 rfl rfl)
theorem dX6_counts_143 : decode cX6_counts 143 = .ok (.if_icmp .ge 13, 3) := dk_162 0 13 (dk_at dksX6_counts_6 3 rfl rfl)
theorem dX6_counts_146 : decode cX6_counts 146 = .ok (.aload_n 0, 1) := dk_42 (dk_at dksX6_counts_6 6 rfl rfl)
theorem dX6_counts_147 : decode cX6_counts 147 = .ok (.getfield 45, 3) := dk_180 0 45 (dk_at dksX6_counts_6 7 rfl rfl)
theorem dX6_counts_150 : decode cX6_counts 150 = .ok (.iload 6, 2) := dk_21 6 (dk_at dksX6_counts_6 10 rfl rfl)
theorem dX6_counts_152 : decode cX6_counts 152 = .ok (.iaload, 1) := dk_46 (dk_at dksX6_counts_6 12 rfl rfl)
theorem dX6_counts_153 : decode cX6_counts 153 = .ok (.goto 4, 3) := dk_167 0 4 (dk_at dksX6_counts_6 13 rfl rfl)
theorem dX6_counts_156 : decode cX6_counts 156 = .ok (.iconst 0, 1) := dk_3 (dk_at dksX6_counts_6 16 rfl rfl)
theorem dX6_counts_157 : decode cX6_counts 157 = .ok (.iadd, 1) := dk_96 (dk_at dksX6_counts_6 17 rfl rfl)
theorem dX6_counts_158 : decode cX6_counts 158 = .ok (.iastore, 1) := dk_79 (dk_at dksX6_counts_6 18 rfl rfl)
theorem dX6_counts_159 : decode cX6_counts 159 = .ok (.iconst 0, 1) := dk_3 (dk_at dksX6_counts_6 19 rfl rfl)
theorem dX6_counts_160 : decode cX6_counts 160 = .ok (.istore 8, 2) := dk_54 8 (dk_at dksX6_counts_6 20 rfl rfl)
theorem dX6_counts_162 : decode cX6_counts 162 = .ok (.iload 8, 2) := dk_21 8 (dk_at dksX6_counts_6 22 rfl rfl)
theorem dX6_counts_164 : decode cX6_counts 164 = .ok (.iload_n 3, 1) := dk_29 (dk_at dksX6_counts_7 0 rfl rfl)
theorem dX6_counts_165 : decode cX6_counts 165 = .ok (.if_icmp .ge 103, 3) := dk_162 0 103 (dk_at dksX6_counts_7 1 rfl rfl)
theorem dX6_counts_168 : decode cX6_counts 168 = .ok (.iload 5, 2) := dk_21 5 (dk_at dksX6_counts_7 4 rfl rfl)
theorem dX6_counts_170 : decode cX6_counts 170 = .ok (.iload 8, 2) := dk_21 8 (dk_at dksX6_counts_7 6 rfl rfl)
theorem dX6_counts_172 : decode cX6_counts 172 = .ok (.invokestatic 102, 3) := dk_184 0 102 (dk_at dksX6_counts_7 8 rfl rfl)
theorem dX6_counts_175 : decode cX6_counts 175 = .ok (.ifCond .eq 53, 3) := dk_153 0 53 (dk_at dksX6_counts_7 11 rfl rfl)
theorem dX6_counts_178 : decode cX6_counts 178 = .ok (.iload 6, 2) := dk_21 6 (dk_at dksX6_counts_7 14 rfl rfl)
theorem dX6_counts_180 : decode cX6_counts 180 = .ok (.iload 8, 2) := dk_21 8 (dk_at dksX6_counts_7 16 rfl rfl)
theorem dX6_counts_182 : decode cX6_counts 182 = .ok (.invokestatic 102, 3) := dk_184 0 102 (dk_at dksX6_counts_7 18 rfl rfl)
theorem dX6_counts_185 : decode cX6_counts 185 = .ok (.ifCond .ne 43, 3) := dk_154 0 43 (dk_at dksX6_counts_7 21 rfl rfl)
theorem dX6_counts_188 : decode cX6_counts 188 = .ok (.aload_n 0, 1) := dk_42 (dk_at dksX6_counts_8 0 rfl rfl)
theorem dX6_counts_189 : decode cX6_counts 189 = .ok (.iload_n 1, 1) := dk_27 (dk_at dksX6_counts_8 1 rfl rfl)
theorem dX6_counts_190 : decode cX6_counts 190 = .ok (.iconst 0, 1) := dk_3 (dk_at dksX6_counts_8 2 rfl rfl)
theorem dX6_counts_191 : decode cX6_counts 191 = .ok (.invokevirtual 106, 3) := dk_182 0 106 (dk_at dksX6_counts_8 3 rfl rfl)
theorem dX6_counts_194 : decode cX6_counts 194 = .ok (.iload 8, 2) := dk_21 8 (dk_at dksX6_counts_8 6 rfl rfl)
theorem dX6_counts_196 : decode cX6_counts 196 = .ok (.iload 7, 2) := dk_21 7 (dk_at dksX6_counts_8 8 rfl rfl)
theorem dX6_counts_198 : decode cX6_counts 198 = .ok (.invokestatic 200, 3) := dk_184 0 200 (dk_at dksX6_counts_8 10 rfl rfl)
theorem dX6_counts_201 : decode cX6_counts 201 = .ok (.ifCond .eq 27, 3) := dk_153 0 27 (dk_at dksX6_counts_8 13 rfl rfl)
theorem dX6_counts_204 : decode cX6_counts 204 = .ok (.aload_n 0, 1) := dk_42 (dk_at dksX6_counts_8 16 rfl rfl)
theorem dX6_counts_205 : decode cX6_counts 205 = .ok (.iload_n 1, 1) := dk_27 (dk_at dksX6_counts_8 17 rfl rfl)
theorem dX6_counts_206 : decode cX6_counts 206 = .ok (.iconst 1, 1) := dk_4 (dk_at dksX6_counts_8 18 rfl rfl)
theorem dX6_counts_207 : decode cX6_counts 207 = .ok (.invokevirtual 106, 3) := dk_182 0 106 (dk_at dksX6_counts_8 19 rfl rfl)
theorem dX6_counts_210 : decode cX6_counts 210 = .ok (.iload 8, 2) := dk_21 8 (dk_at dksX6_counts_8 22 rfl rfl)
theorem dX6_counts_212 : decode cX6_counts 212 = .ok (.iload_n 3, 1) := dk_29 (dk_at dksX6_counts_9 0 rfl rfl)
theorem dX6_counts_213 : decode cX6_counts 213 = .ok (.iconst 1, 1) := dk_4 (dk_at dksX6_counts_9 1 rfl rfl)
theorem dX6_counts_214 : decode cX6_counts 214 = .ok (.isub, 1) := dk_100 (dk_at dksX6_counts_9 2 rfl rfl)
theorem dX6_counts_215 : decode cX6_counts 215 = .ok (.iload 7, 2) := dk_21 7 (dk_at dksX6_counts_9 3 rfl rfl)
theorem dX6_counts_217 : decode cX6_counts 217 = .ok (.isub, 1) := dk_100 (dk_at dksX6_counts_9 5 rfl rfl)
theorem dX6_counts_218 : decode cX6_counts 218 = .ok (.invokestatic 200, 3) := dk_184 0 200 (dk_at dksX6_counts_9 6 rfl rfl)
theorem dX6_counts_221 : decode cX6_counts 221 = .ok (.ifCond .eq 7, 3) := dk_153 0 7 (dk_at dksX6_counts_9 9 rfl rfl)
theorem dX6_counts_224 : decode cX6_counts 224 = .ok (.iconst 1, 1) := dk_4 (dk_at dksX6_counts_9 12 rfl rfl)
theorem dX6_counts_225 : decode cX6_counts 225 = .ok (.goto 4, 3) := dk_167 0 4 (dk_at dksX6_counts_9 13 rfl rfl)
theorem dX6_counts_228 : decode cX6_counts 228 = .ok (.iconst 0, 1) := dk_3 (dk_at dksX6_counts_9 16 rfl rfl)
theorem dX6_counts_229 : decode cX6_counts 229 = .ok (.istore 9, 2) := dk_54 9 (dk_at dksX6_counts_9 17 rfl rfl)
theorem dX6_counts_231 : decode cX6_counts 231 = .ok (.aload_n 0, 1) := dk_42 (dk_at dksX6_counts_9 19 rfl rfl)
theorem dX6_counts_232 : decode cX6_counts 232 = .ok (.getfield 48, 3) := dk_180 0 48 (dk_at dksX6_counts_9 20 rfl rfl)
theorem dX6_counts_235 : decode cX6_counts 235 = .ok (.iload 6, 2) := dk_21 6 (dk_at dksX6_counts_10 0 rfl rfl)
theorem dX6_counts_237 : decode cX6_counts 237 = .ok (.iconst 1, 1) := dk_4 (dk_at dksX6_counts_10 2 rfl rfl)
theorem dX6_counts_238 : decode cX6_counts 238 = .ok (.iload 8, 2) := dk_21 8 (dk_at dksX6_counts_10 3 rfl rfl)
theorem dX6_counts_240 : decode cX6_counts 240 = .ok (.ishl, 1) := dk_120 (dk_at dksX6_counts_10 5 rfl rfl)
theorem dX6_counts_241 : decode cX6_counts 241 = .ok (.ior, 1) := dk_128 (dk_at dksX6_counts_10 6 rfl rfl)
theorem dX6_counts_242 : decode cX6_counts 242 = .ok (.dup2, 1) := dk_92 (dk_at dksX6_counts_10 7 rfl rfl)
theorem dX6_counts_243 : decode cX6_counts 243 = .ok (.iaload, 1) := dk_46 (dk_at dksX6_counts_10 8 rfl rfl)
theorem dX6_counts_244 : decode cX6_counts 244 = .ok (.iload 9, 2) := dk_21 9 (dk_at dksX6_counts_10 9 rfl rfl)
theorem dX6_counts_246 : decode cX6_counts 246 = .ok (.ifCond .eq 13, 3) := dk_153 0 13 (dk_at dksX6_counts_10 11 rfl rfl)
theorem dX6_counts_249 : decode cX6_counts 249 = .ok (.aload_n 0, 1) := dk_42 (dk_at dksX6_counts_10 14 rfl rfl)
theorem dX6_counts_250 : decode cX6_counts 250 = .ok (.getfield 45, 3) := dk_180 0 45 (dk_at dksX6_counts_10 15 rfl rfl)
theorem dX6_counts_253 : decode cX6_counts 253 = .ok (.iload 6, 2) := dk_21 6 (dk_at dksX6_counts_10 18 rfl rfl)
theorem dX6_counts_255 : decode cX6_counts 255 = .ok (.iaload, 1) := dk_46 (dk_at dksX6_counts_10 20 rfl rfl)
theorem dX6_counts_256 : decode cX6_counts 256 = .ok (.goto 4, 3) := dk_167 0 4 (dk_at dksX6_counts_10 21 rfl rfl)
theorem dX6_counts_259 : decode cX6_counts 259 = .ok (.iconst 0, 1) := dk_3 (dk_at dksX6_counts_11 0 rfl rfl)
theorem dX6_counts_260 : decode cX6_counts 260 = .ok (.iadd, 1) := dk_96 (dk_at dksX6_counts_11 1 rfl rfl)
theorem dX6_counts_261 : decode cX6_counts 261 = .ok (.iastore, 1) := dk_79 (dk_at dksX6_counts_11 2 rfl rfl)
theorem dX6_counts_262 : decode cX6_counts 262 = .ok (.iinc 8 1, 3) := dk_132 8 1 (dk_at dksX6_counts_11 3 rfl rfl)
theorem dX6_counts_265 : decode cX6_counts 265 = .ok (.goto (-103), 3) := dk_167 255 153 (dk_at dksX6_counts_11 6 rfl rfl)
theorem dX6_counts_268 : decode cX6_counts 268 = .ok (.iinc 6 1, 3) := dk_132 6 1 (dk_at dksX6_counts_11 9 rfl rfl)
theorem dX6_counts_271 : decode cX6_counts 271 = .ok (.goto (-168), 3) := dk_167 255 88 (dk_at dksX6_counts_11 12 rfl rfl)
theorem dX6_counts_274 : decode cX6_counts 274 = .ok (.iconst 0, 1) := dk_3 (dk_at dksX6_counts_11 15 rfl rfl)
theorem dX6_counts_275 : decode cX6_counts 275 = .ok (.istore 6, 2) := dk_54 6 (dk_at dksX6_counts_11 16 rfl rfl)
theorem dX6_counts_277 : decode cX6_counts 277 = .ok (.iload 6, 2) := dk_21 6 (dk_at dksX6_counts_11 18 rfl rfl)
theorem dX6_counts_279 : decode cX6_counts 279 = .ok (.bipush 16, 2) := dk_16 16 (dk_at dksX6_counts_11 20 rfl rfl)
theorem dX6_counts_281 : decode cX6_counts 281 = .ok (.if_icmp .ge 23, 3) := dk_162 0 23 (dk_at dksX6_counts_12 0 rfl rfl)
theorem dX6_counts_284 : decode cX6_counts 284 = .ok (.aload_n 0, 1) := dk_42 (dk_at dksX6_counts_12 3 rfl rfl)
theorem dX6_counts_285 : decode cX6_counts 285 = .ok (.getfield 45, 3) := dk_180 0 45 (dk_at dksX6_counts_12 4 rfl rfl)
theorem dX6_counts_288 : decode cX6_counts 288 = .ok (.iload 6, 2) := dk_21 6 (dk_at dksX6_counts_12 7 rfl rfl)
theorem dX6_counts_290 : decode cX6_counts 290 = .ok (.aload_n 0, 1) := dk_42 (dk_at dksX6_counts_12 9 rfl rfl)
theorem dX6_counts_291 : decode cX6_counts 291 = .ok (.getfield 48, 3) := dk_180 0 48 (dk_at dksX6_counts_12 10 rfl rfl)
theorem dX6_counts_294 : decode cX6_counts 294 = .ok (.iload 6, 2) := dk_21 6 (dk_at dksX6_counts_12 13 rfl rfl)
theorem dX6_counts_296 : decode cX6_counts 296 = .ok (.iaload, 1) := dk_46 (dk_at dksX6_counts_12 15 rfl rfl)
theorem dX6_counts_297 : decode cX6_counts 297 = .ok (.iastore, 1) := dk_79 (dk_at dksX6_counts_12 16 rfl rfl)
theorem dX6_counts_298 : decode cX6_counts 298 = .ok (.iinc 6 1, 3) := dk_132 6 1 (dk_at dksX6_counts_12 17 rfl rfl)
theorem dX6_counts_301 : decode cX6_counts 301 = .ok (.goto (-24), 3) := dk_167 255 232 (dk_at dksX6_counts_12 20 rfl rfl)
theorem dX6_counts_304 : decode cX6_counts 304 = .ok (.iinc 4 1, 3) := dk_132 4 1 (dk_at dksX6_counts_13 0 rfl rfl)
theorem dX6_counts_307 : decode cX6_counts 307 = .ok (.goto (-254), 3) := dk_167 255 2 (dk_at dksX6_counts_13 3 rfl rfl)
theorem dX6_counts_310 : decode cX6_counts 310 = .ok (.aload_n 0, 1) := dk_42 (dk_at dksX6_counts_13 6 rfl rfl)
theorem dX6_counts_311 : decode cX6_counts 311 = .ok (.getfield 45, 3) := dk_180 0 45 (dk_at dksX6_counts_13 7 rfl rfl)
theorem dX6_counts_314 : decode cX6_counts 314 = .ok (.iconst 1, 1) := dk_4 (dk_at dksX6_counts_13 10 rfl rfl)
theorem dX6_counts_315 : decode cX6_counts 315 = .ok (.iload_n 3, 1) := dk_29 (dk_at dksX6_counts_13 11 rfl rfl)
theorem dX6_counts_316 : decode cX6_counts 316 = .ok (.ishl, 1) := dk_120 (dk_at dksX6_counts_13 12 rfl rfl)
theorem dX6_counts_317 : decode cX6_counts 317 = .ok (.iconst 1, 1) := dk_4 (dk_at dksX6_counts_13 13 rfl rfl)
theorem dX6_counts_318 : decode cX6_counts 318 = .ok (.isub, 1) := dk_100 (dk_at dksX6_counts_13 14 rfl rfl)
theorem dX6_counts_319 : decode cX6_counts 319 = .ok (.iaload, 1) := dk_46 (dk_at dksX6_counts_13 15 rfl rfl)
theorem dX6_counts_320 : decode cX6_counts 320 = .ok (.ireturn, 1) := dk_172 (dk_at dksX6_counts_13 16 rfl rfl)
abbrev cX6_isInOrder : ByteArray := prog_10_method_55_code
def yX6_isInOrder : MethodName := ⟨RX6, "isInOrder", "(III)Z"⟩
def dkwX6_isInOrder_1 : List UInt8 := [160, 0, 7, 4, 167, 0, 4, 3, 160, 0, 7, 4, 167, 0, 4, 3, 172]
abbrev dktX6_isInOrder_1 : List UInt8 := dkwX6_isInOrder_1 ++ []
def dkwX6_isInOrder_0 : List UInt8 := [26, 153, 0, 34, 28, 26, 4, 96, 5, 112, 160, 0, 7, 4, 167, 0, 4, 3, 27, 26, 4, 100, 5, 108]
abbrev dktX6_isInOrder_0 : List UInt8 := dkwX6_isInOrder_0 ++ dktX6_isInOrder_1
theorem dksX6_isInOrder_0 : cX6_isInOrder.data.toList.drop 0 = dktX6_isInOrder_0 := by decide +kernel
theorem dksX6_isInOrder_1 : cX6_isInOrder.data.toList.drop 24 = dktX6_isInOrder_1 := dk_seg dksX6_isInOrder_0 24 rfl rfl
theorem dX6_isInOrder_0 : decode cX6_isInOrder 0 = .ok (.iload_n 0, 1) := dk_26 (dk_at dksX6_isInOrder_0 0 rfl rfl)
theorem dX6_isInOrder_1 : decode cX6_isInOrder 1 = .ok (.ifCond .eq 34, 3) := dk_153 0 34 (dk_at dksX6_isInOrder_0 1 rfl rfl)
theorem dX6_isInOrder_4 : decode cX6_isInOrder 4 = .ok (.iload_n 2, 1) := dk_28 (dk_at dksX6_isInOrder_0 4 rfl rfl)
theorem dX6_isInOrder_5 : decode cX6_isInOrder 5 = .ok (.iload_n 0, 1) := dk_26 (dk_at dksX6_isInOrder_0 5 rfl rfl)
theorem dX6_isInOrder_6 : decode cX6_isInOrder 6 = .ok (.iconst 1, 1) := dk_4 (dk_at dksX6_isInOrder_0 6 rfl rfl)
theorem dX6_isInOrder_7 : decode cX6_isInOrder 7 = .ok (.iadd, 1) := dk_96 (dk_at dksX6_isInOrder_0 7 rfl rfl)
theorem dX6_isInOrder_8 : decode cX6_isInOrder 8 = .ok (.iconst 2, 1) := dk_5 (dk_at dksX6_isInOrder_0 8 rfl rfl)
theorem dX6_isInOrder_9 : decode cX6_isInOrder 9 = .ok (.irem, 1) := dk_112 (dk_at dksX6_isInOrder_0 9 rfl rfl)
theorem dX6_isInOrder_10 : decode cX6_isInOrder 10 = .ok (.if_icmp .ne 7, 3) := dk_160 0 7 (dk_at dksX6_isInOrder_0 10 rfl rfl)
theorem dX6_isInOrder_13 : decode cX6_isInOrder 13 = .ok (.iconst 1, 1) := dk_4 (dk_at dksX6_isInOrder_0 13 rfl rfl)
theorem dX6_isInOrder_14 : decode cX6_isInOrder 14 = .ok (.goto 4, 3) := dk_167 0 4 (dk_at dksX6_isInOrder_0 14 rfl rfl)
theorem dX6_isInOrder_17 : decode cX6_isInOrder 17 = .ok (.iconst 0, 1) := dk_3 (dk_at dksX6_isInOrder_0 17 rfl rfl)
theorem dX6_isInOrder_18 : decode cX6_isInOrder 18 = .ok (.iload_n 1, 1) := dk_27 (dk_at dksX6_isInOrder_0 18 rfl rfl)
theorem dX6_isInOrder_19 : decode cX6_isInOrder 19 = .ok (.iload_n 0, 1) := dk_26 (dk_at dksX6_isInOrder_0 19 rfl rfl)
theorem dX6_isInOrder_20 : decode cX6_isInOrder 20 = .ok (.iconst 1, 1) := dk_4 (dk_at dksX6_isInOrder_0 20 rfl rfl)
theorem dX6_isInOrder_21 : decode cX6_isInOrder 21 = .ok (.isub, 1) := dk_100 (dk_at dksX6_isInOrder_0 21 rfl rfl)
theorem dX6_isInOrder_22 : decode cX6_isInOrder 22 = .ok (.iconst 2, 1) := dk_5 (dk_at dksX6_isInOrder_0 22 rfl rfl)
theorem dX6_isInOrder_23 : decode cX6_isInOrder 23 = .ok (.idiv, 1) := dk_108 (dk_at dksX6_isInOrder_0 23 rfl rfl)
theorem dX6_isInOrder_24 : decode cX6_isInOrder 24 = .ok (.if_icmp .ne 7, 3) := dk_160 0 7 (dk_at dksX6_isInOrder_1 0 rfl rfl)
theorem dX6_isInOrder_27 : decode cX6_isInOrder 27 = .ok (.iconst 1, 1) := dk_4 (dk_at dksX6_isInOrder_1 3 rfl rfl)
theorem dX6_isInOrder_28 : decode cX6_isInOrder 28 = .ok (.goto 4, 3) := dk_167 0 4 (dk_at dksX6_isInOrder_1 4 rfl rfl)
theorem dX6_isInOrder_31 : decode cX6_isInOrder 31 = .ok (.iconst 0, 1) := dk_3 (dk_at dksX6_isInOrder_1 7 rfl rfl)
theorem dX6_isInOrder_32 : decode cX6_isInOrder 32 = .ok (.if_icmp .ne 7, 3) := dk_160 0 7 (dk_at dksX6_isInOrder_1 8 rfl rfl)
theorem dX6_isInOrder_35 : decode cX6_isInOrder 35 = .ok (.iconst 1, 1) := dk_4 (dk_at dksX6_isInOrder_1 11 rfl rfl)
theorem dX6_isInOrder_36 : decode cX6_isInOrder 36 = .ok (.goto 4, 3) := dk_167 0 4 (dk_at dksX6_isInOrder_1 12 rfl rfl)
theorem dX6_isInOrder_39 : decode cX6_isInOrder 39 = .ok (.iconst 0, 1) := dk_3 (dk_at dksX6_isInOrder_1 15 rfl rfl)
theorem dX6_isInOrder_40 : decode cX6_isInOrder 40 = .ok (.ireturn, 1) := dk_172 (dk_at dksX6_isInOrder_1 16 rfl rfl)
abbrev cX6_thingsIn : ByteArray := prog_10_method_90_code
def yX6_thingsIn : MethodName := ⟨RX6, "thingsIn", "(II)I"⟩
def dkwX6_thingsIn_1 : List UInt8 := [27, 182, 0, 119, 62, 42, 180, 0, 30, 28, 46, 172]
abbrev dktX6_thingsIn_1 : List UInt8 := dkwX6_thingsIn_1 ++ []
def dkwX6_thingsIn_0 : List UInt8 := [42, 42, 27, 28, 182, 0, 248, 4, 4, 182, 0, 210, 154, 0, 5, 3, 172, 42, 3, 182, 0, 126, 42, 3]
abbrev dktX6_thingsIn_0 : List UInt8 := dkwX6_thingsIn_0 ++ dktX6_thingsIn_1
theorem dksX6_thingsIn_0 : cX6_thingsIn.data.toList.drop 0 = dktX6_thingsIn_0 := by decide +kernel
theorem dksX6_thingsIn_1 : cX6_thingsIn.data.toList.drop 24 = dktX6_thingsIn_1 := dk_seg dksX6_thingsIn_0 24 rfl rfl
theorem dX6_thingsIn_0 : decode cX6_thingsIn 0 = .ok (.aload_n 0, 1) := dk_42 (dk_at dksX6_thingsIn_0 0 rfl rfl)
theorem dX6_thingsIn_1 : decode cX6_thingsIn 1 = .ok (.aload_n 0, 1) := dk_42 (dk_at dksX6_thingsIn_0 1 rfl rfl)
theorem dX6_thingsIn_2 : decode cX6_thingsIn 2 = .ok (.iload_n 1, 1) := dk_27 (dk_at dksX6_thingsIn_0 2 rfl rfl)
theorem dX6_thingsIn_3 : decode cX6_thingsIn 3 = .ok (.iload_n 2, 1) := dk_28 (dk_at dksX6_thingsIn_0 3 rfl rfl)
theorem dX6_thingsIn_4 : decode cX6_thingsIn 4 = .ok (.invokevirtual 248, 3) := dk_182 0 248 (dk_at dksX6_thingsIn_0 4 rfl rfl)
theorem dX6_thingsIn_7 : decode cX6_thingsIn 7 = .ok (.iconst 1, 1) := dk_4 (dk_at dksX6_thingsIn_0 7 rfl rfl)
theorem dX6_thingsIn_8 : decode cX6_thingsIn 8 = .ok (.iconst 1, 1) := dk_4 (dk_at dksX6_thingsIn_0 8 rfl rfl)
theorem dX6_thingsIn_9 : decode cX6_thingsIn 9 = .ok (.invokevirtual 210, 3) := dk_182 0 210 (dk_at dksX6_thingsIn_0 9 rfl rfl)
theorem dX6_thingsIn_12 : decode cX6_thingsIn 12 = .ok (.ifCond .ne 5, 3) := dk_154 0 5 (dk_at dksX6_thingsIn_0 12 rfl rfl)
theorem dX6_thingsIn_15 : decode cX6_thingsIn 15 = .ok (.iconst 0, 1) := dk_3 (dk_at dksX6_thingsIn_0 15 rfl rfl)
theorem dX6_thingsIn_16 : decode cX6_thingsIn 16 = .ok (.ireturn, 1) := dk_172 (dk_at dksX6_thingsIn_0 16 rfl rfl)
theorem dX6_thingsIn_17 : decode cX6_thingsIn 17 = .ok (.aload_n 0, 1) := dk_42 (dk_at dksX6_thingsIn_0 17 rfl rfl)
theorem dX6_thingsIn_18 : decode cX6_thingsIn 18 = .ok (.iconst 0, 1) := dk_3 (dk_at dksX6_thingsIn_0 18 rfl rfl)
theorem dX6_thingsIn_19 : decode cX6_thingsIn 19 = .ok (.invokevirtual 126, 3) := dk_182 0 126 (dk_at dksX6_thingsIn_0 19 rfl rfl)
theorem dX6_thingsIn_22 : decode cX6_thingsIn 22 = .ok (.aload_n 0, 1) := dk_42 (dk_at dksX6_thingsIn_0 22 rfl rfl)
theorem dX6_thingsIn_23 : decode cX6_thingsIn 23 = .ok (.iconst 0, 1) := dk_3 (dk_at dksX6_thingsIn_0 23 rfl rfl)
theorem dX6_thingsIn_24 : decode cX6_thingsIn 24 = .ok (.iload_n 1, 1) := dk_27 (dk_at dksX6_thingsIn_1 0 rfl rfl)
theorem dX6_thingsIn_25 : decode cX6_thingsIn 25 = .ok (.invokevirtual 119, 3) := dk_182 0 119 (dk_at dksX6_thingsIn_1 1 rfl rfl)
theorem dX6_thingsIn_28 : decode cX6_thingsIn 28 = .ok (.istore_n 3, 1) := dk_62 (dk_at dksX6_thingsIn_1 4 rfl rfl)
theorem dX6_thingsIn_29 : decode cX6_thingsIn 29 = .ok (.aload_n 0, 1) := dk_42 (dk_at dksX6_thingsIn_1 5 rfl rfl)
theorem dX6_thingsIn_30 : decode cX6_thingsIn 30 = .ok (.getfield 30, 3) := dk_180 0 30 (dk_at dksX6_thingsIn_1 6 rfl rfl)
theorem dX6_thingsIn_33 : decode cX6_thingsIn 33 = .ok (.iload_n 2, 1) := dk_28 (dk_at dksX6_thingsIn_1 9 rfl rfl)
theorem dX6_thingsIn_34 : decode cX6_thingsIn 34 = .ok (.iaload, 1) := dk_46 (dk_at dksX6_thingsIn_1 10 rfl rfl)
theorem dX6_thingsIn_35 : decode cX6_thingsIn 35 = .ok (.ireturn, 1) := dk_172 (dk_at dksX6_thingsIn_1 11 rfl rfl)
abbrev cX6_brokenLines : ByteArray := prog_10_method_91_code
def yX6_brokenLines : MethodName := ⟨RX6, "brokenLines", "()I"⟩
def dkwX6_brokenLines_0 : List UInt8 := [42, 42, 182, 1, 4, 182, 0, 242, 172]
abbrev dktX6_brokenLines_0 : List UInt8 := dkwX6_brokenLines_0 ++ []
theorem dksX6_brokenLines_0 : cX6_brokenLines.data.toList.drop 0 = dktX6_brokenLines_0 := by decide +kernel
theorem dX6_brokenLines_0 : decode cX6_brokenLines 0 = .ok (.aload_n 0, 1) := dk_42 (dk_at dksX6_brokenLines_0 0 rfl rfl)
theorem dX6_brokenLines_1 : decode cX6_brokenLines 1 = .ok (.aload_n 0, 1) := dk_42 (dk_at dksX6_brokenLines_0 1 rfl rfl)
theorem dX6_brokenLines_2 : decode cX6_brokenLines 2 = .ok (.invokevirtual 260, 3) := dk_182 1 4 (dk_at dksX6_brokenLines_0 2 rfl rfl)
theorem dX6_brokenLines_5 : decode cX6_brokenLines 5 = .ok (.invokevirtual 242, 3) := dk_182 0 242 (dk_at dksX6_brokenLines_0 5 rfl rfl)
theorem dX6_brokenLines_8 : decode cX6_brokenLines 8 = .ok (.ireturn, 1) := dk_172 (dk_at dksX6_brokenLines_0 8 rfl rfl)
abbrev cX6_seenFrom : ByteArray := prog_10_method_92_code
def yX6_seenFrom : MethodName := ⟨RX6, "seenFrom", "(II)I"⟩
def dkwX6_seenFrom_8 : List UInt8 := [21, 8, 153, 0, 8, 21, 7, 167, 0, 4, 2, 172]
abbrev dktX6_seenFrom_8 : List UInt8 := dkwX6_seenFrom_8 ++ []
def dkwX6_seenFrom_7 : List UInt8 := [154, 0, 11, 21, 10, 184, 0, 183, 167, 0, 5, 21, 7, 54, 7, 132, 6, 255, 132, 9, 1, 167, 255, 160]
abbrev dktX6_seenFrom_7 : List UInt8 := dkwX6_seenFrom_7 ++ dktX6_seenFrom_8
def dkwX6_seenFrom_6 : List UInt8 := [167, 0, 4, 3, 54, 8, 21, 10, 184, 0, 183, 42, 180, 0, 7, 4, 46, 162, 0, 23, 21, 6]
abbrev dktX6_seenFrom_6 : List UInt8 := dkwX6_seenFrom_6 ++ dktX6_seenFrom_7
def dkwX6_seenFrom_5 : List UInt8 := [21, 9, 182, 0, 99, 96, 46, 54, 10, 21, 8, 153, 0, 16, 42, 21, 10, 182, 0, 136, 153, 0, 7, 4]
abbrev dktX6_seenFrom_5 : List UInt8 := dkwX6_seenFrom_5 ++ dktX6_seenFrom_6
def dkwX6_seenFrom_4 : List UInt8 := [42, 180, 0, 7, 16, 23, 42, 21, 4, 21, 5, 153, 0, 12, 29, 4, 100, 21, 9, 100, 167, 0, 5]
abbrev dktX6_seenFrom_4 : List UInt8 := dkwX6_seenFrom_4 ++ dktX6_seenFrom_5
def dkwX6_seenFrom_3 : List UInt8 := [167, 0, 4, 3, 54, 5, 28, 54, 6, 2, 54, 7, 4, 54, 8, 3, 54, 9, 21, 9, 29, 162, 0, 96]
abbrev dktX6_seenFrom_3 : List UInt8 := dkwX6_seenFrom_3 ++ dktX6_seenFrom_4
def dkwX6_seenFrom_2 : List UInt8 := [96, 167, 0, 6, 27, 29, 112, 54, 4, 27, 29, 108, 4, 159, 0, 10, 27, 29, 108, 5, 160, 0, 7, 4]
abbrev dktX6_seenFrom_2 : List UInt8 := dkwX6_seenFrom_2 ++ dktX6_seenFrom_3
def dkwX6_seenFrom_1 : List UInt8 := [154, 0, 5, 3, 172, 42, 180, 0, 7, 3, 46, 62, 27, 29, 108, 5, 112, 154, 0, 11, 29, 27, 29, 112]
abbrev dktX6_seenFrom_1 : List UInt8 := dkwX6_seenFrom_1 ++ dktX6_seenFrom_2
def dkwX6_seenFrom_0 : List UInt8 := [42, 42, 27, 182, 0, 220, 153, 0, 11, 28, 155, 0, 7, 4, 167, 0, 4, 3, 4, 4, 182, 0, 210]
abbrev dktX6_seenFrom_0 : List UInt8 := dkwX6_seenFrom_0 ++ dktX6_seenFrom_1
theorem dksX6_seenFrom_0 : cX6_seenFrom.data.toList.drop 0 = dktX6_seenFrom_0 := by decide +kernel
theorem dksX6_seenFrom_1 : cX6_seenFrom.data.toList.drop 23 = dktX6_seenFrom_1 := dk_seg dksX6_seenFrom_0 23 rfl rfl
theorem dksX6_seenFrom_2 : cX6_seenFrom.data.toList.drop 47 = dktX6_seenFrom_2 := dk_seg dksX6_seenFrom_1 24 rfl rfl
theorem dksX6_seenFrom_3 : cX6_seenFrom.data.toList.drop 71 = dktX6_seenFrom_3 := dk_seg dksX6_seenFrom_2 24 rfl rfl
theorem dksX6_seenFrom_4 : cX6_seenFrom.data.toList.drop 95 = dktX6_seenFrom_4 := dk_seg dksX6_seenFrom_3 24 rfl rfl
theorem dksX6_seenFrom_5 : cX6_seenFrom.data.toList.drop 118 = dktX6_seenFrom_5 := dk_seg dksX6_seenFrom_4 23 rfl rfl
theorem dksX6_seenFrom_6 : cX6_seenFrom.data.toList.drop 142 = dktX6_seenFrom_6 := dk_seg dksX6_seenFrom_5 24 rfl rfl
theorem dksX6_seenFrom_7 : cX6_seenFrom.data.toList.drop 164 = dktX6_seenFrom_7 := dk_seg dksX6_seenFrom_6 22 rfl rfl
theorem dksX6_seenFrom_8 : cX6_seenFrom.data.toList.drop 188 = dktX6_seenFrom_8 := dk_seg dksX6_seenFrom_7 24 rfl rfl
theorem dX6_seenFrom_0 : decode cX6_seenFrom 0 = .ok (.aload_n 0, 1) := dk_42 (dk_at dksX6_seenFrom_0 0 rfl rfl)
theorem dX6_seenFrom_1 : decode cX6_seenFrom 1 = .ok (.aload_n 0, 1) := dk_42 (dk_at dksX6_seenFrom_0 1 rfl rfl)
theorem dX6_seenFrom_2 : decode cX6_seenFrom 2 = .ok (.iload_n 1, 1) := dk_27 (dk_at dksX6_seenFrom_0 2 rfl rfl)
theorem dX6_seenFrom_3 : decode cX6_seenFrom 3 = .ok (.invokevirtual 220, 3) := dk_182 0 220 (dk_at dksX6_seenFrom_0 3 rfl rfl)
theorem dX6_seenFrom_6 : decode cX6_seenFrom 6 = .ok (.ifCond .eq 11, 3) := dk_153 0 11 (dk_at dksX6_seenFrom_0 6 rfl rfl)
theorem dX6_seenFrom_9 : decode cX6_seenFrom 9 = .ok (.iload_n 2, 1) := dk_28 (dk_at dksX6_seenFrom_0 9 rfl rfl)
theorem dX6_seenFrom_10 : decode cX6_seenFrom 10 = .ok (.ifCond .lt 7, 3) := dk_155 0 7 (dk_at dksX6_seenFrom_0 10 rfl rfl)
theorem dX6_seenFrom_13 : decode cX6_seenFrom 13 = .ok (.iconst 1, 1) := dk_4 (dk_at dksX6_seenFrom_0 13 rfl rfl)
theorem dX6_seenFrom_14 : decode cX6_seenFrom 14 = .ok (.goto 4, 3) := dk_167 0 4 (dk_at dksX6_seenFrom_0 14 rfl rfl)
theorem dX6_seenFrom_17 : decode cX6_seenFrom 17 = .ok (.iconst 0, 1) := dk_3 (dk_at dksX6_seenFrom_0 17 rfl rfl)
theorem dX6_seenFrom_18 : decode cX6_seenFrom 18 = .ok (.iconst 1, 1) := dk_4 (dk_at dksX6_seenFrom_0 18 rfl rfl)
theorem dX6_seenFrom_19 : decode cX6_seenFrom 19 = .ok (.iconst 1, 1) := dk_4 (dk_at dksX6_seenFrom_0 19 rfl rfl)
theorem dX6_seenFrom_20 : decode cX6_seenFrom 20 = .ok (.invokevirtual 210, 3) := dk_182 0 210 (dk_at dksX6_seenFrom_0 20 rfl rfl)
theorem dX6_seenFrom_23 : decode cX6_seenFrom 23 = .ok (.ifCond .ne 5, 3) := dk_154 0 5 (dk_at dksX6_seenFrom_1 0 rfl rfl)
theorem dX6_seenFrom_26 : decode cX6_seenFrom 26 = .ok (.iconst 0, 1) := dk_3 (dk_at dksX6_seenFrom_1 3 rfl rfl)
theorem dX6_seenFrom_27 : decode cX6_seenFrom 27 = .ok (.ireturn, 1) := dk_172 (dk_at dksX6_seenFrom_1 4 rfl rfl)
theorem dX6_seenFrom_28 : decode cX6_seenFrom 28 = .ok (.aload_n 0, 1) := dk_42 (dk_at dksX6_seenFrom_1 5 rfl rfl)
theorem dX6_seenFrom_29 : decode cX6_seenFrom 29 = .ok (.getfield 7, 3) := dk_180 0 7 (dk_at dksX6_seenFrom_1 6 rfl rfl)
theorem dX6_seenFrom_32 : decode cX6_seenFrom 32 = .ok (.iconst 0, 1) := dk_3 (dk_at dksX6_seenFrom_1 9 rfl rfl)
theorem dX6_seenFrom_33 : decode cX6_seenFrom 33 = .ok (.iaload, 1) := dk_46 (dk_at dksX6_seenFrom_1 10 rfl rfl)
theorem dX6_seenFrom_34 : decode cX6_seenFrom 34 = .ok (.istore_n 3, 1) := dk_62 (dk_at dksX6_seenFrom_1 11 rfl rfl)
theorem dX6_seenFrom_35 : decode cX6_seenFrom 35 = .ok (.iload_n 1, 1) := dk_27 (dk_at dksX6_seenFrom_1 12 rfl rfl)
theorem dX6_seenFrom_36 : decode cX6_seenFrom 36 = .ok (.iload_n 3, 1) := dk_29 (dk_at dksX6_seenFrom_1 13 rfl rfl)
theorem dX6_seenFrom_37 : decode cX6_seenFrom 37 = .ok (.idiv, 1) := dk_108 (dk_at dksX6_seenFrom_1 14 rfl rfl)
theorem dX6_seenFrom_38 : decode cX6_seenFrom 38 = .ok (.iconst 2, 1) := dk_5 (dk_at dksX6_seenFrom_1 15 rfl rfl)
theorem dX6_seenFrom_39 : decode cX6_seenFrom 39 = .ok (.irem, 1) := dk_112 (dk_at dksX6_seenFrom_1 16 rfl rfl)
theorem dX6_seenFrom_40 : decode cX6_seenFrom 40 = .ok (.ifCond .ne 11, 3) := dk_154 0 11 (dk_at dksX6_seenFrom_1 17 rfl rfl)
theorem dX6_seenFrom_43 : decode cX6_seenFrom 43 = .ok (.iload_n 3, 1) := dk_29 (dk_at dksX6_seenFrom_1 20 rfl rfl)
theorem dX6_seenFrom_44 : decode cX6_seenFrom 44 = .ok (.iload_n 1, 1) := dk_27 (dk_at dksX6_seenFrom_1 21 rfl rfl)
theorem dX6_seenFrom_45 : decode cX6_seenFrom 45 = .ok (.iload_n 3, 1) := dk_29 (dk_at dksX6_seenFrom_1 22 rfl rfl)
theorem dX6_seenFrom_46 : decode cX6_seenFrom 46 = .ok (.irem, 1) := dk_112 (dk_at dksX6_seenFrom_1 23 rfl rfl)
theorem dX6_seenFrom_47 : decode cX6_seenFrom 47 = .ok (.iadd, 1) := dk_96 (dk_at dksX6_seenFrom_2 0 rfl rfl)
theorem dX6_seenFrom_48 : decode cX6_seenFrom 48 = .ok (.goto 6, 3) := dk_167 0 6 (dk_at dksX6_seenFrom_2 1 rfl rfl)
theorem dX6_seenFrom_51 : decode cX6_seenFrom 51 = .ok (.iload_n 1, 1) := dk_27 (dk_at dksX6_seenFrom_2 4 rfl rfl)
theorem dX6_seenFrom_52 : decode cX6_seenFrom 52 = .ok (.iload_n 3, 1) := dk_29 (dk_at dksX6_seenFrom_2 5 rfl rfl)
theorem dX6_seenFrom_53 : decode cX6_seenFrom 53 = .ok (.irem, 1) := dk_112 (dk_at dksX6_seenFrom_2 6 rfl rfl)
theorem dX6_seenFrom_54 : decode cX6_seenFrom 54 = .ok (.istore 4, 2) := dk_54 4 (dk_at dksX6_seenFrom_2 7 rfl rfl)
theorem dX6_seenFrom_56 : decode cX6_seenFrom 56 = .ok (.iload_n 1, 1) := dk_27 (dk_at dksX6_seenFrom_2 9 rfl rfl)
theorem dX6_seenFrom_57 : decode cX6_seenFrom 57 = .ok (.iload_n 3, 1) := dk_29 (dk_at dksX6_seenFrom_2 10 rfl rfl)
theorem dX6_seenFrom_58 : decode cX6_seenFrom 58 = .ok (.idiv, 1) := dk_108 (dk_at dksX6_seenFrom_2 11 rfl rfl)
theorem dX6_seenFrom_59 : decode cX6_seenFrom 59 = .ok (.iconst 1, 1) := dk_4 (dk_at dksX6_seenFrom_2 12 rfl rfl)
theorem dX6_seenFrom_60 : decode cX6_seenFrom 60 = .ok (.if_icmp .eq 10, 3) := dk_159 0 10 (dk_at dksX6_seenFrom_2 13 rfl rfl)
theorem dX6_seenFrom_63 : decode cX6_seenFrom 63 = .ok (.iload_n 1, 1) := dk_27 (dk_at dksX6_seenFrom_2 16 rfl rfl)
theorem dX6_seenFrom_64 : decode cX6_seenFrom 64 = .ok (.iload_n 3, 1) := dk_29 (dk_at dksX6_seenFrom_2 17 rfl rfl)
theorem dX6_seenFrom_65 : decode cX6_seenFrom 65 = .ok (.idiv, 1) := dk_108 (dk_at dksX6_seenFrom_2 18 rfl rfl)
theorem dX6_seenFrom_66 : decode cX6_seenFrom 66 = .ok (.iconst 2, 1) := dk_5 (dk_at dksX6_seenFrom_2 19 rfl rfl)
theorem dX6_seenFrom_67 : decode cX6_seenFrom 67 = .ok (.if_icmp .ne 7, 3) := dk_160 0 7 (dk_at dksX6_seenFrom_2 20 rfl rfl)
theorem dX6_seenFrom_70 : decode cX6_seenFrom 70 = .ok (.iconst 1, 1) := dk_4 (dk_at dksX6_seenFrom_2 23 rfl rfl)
theorem dX6_seenFrom_71 : decode cX6_seenFrom 71 = .ok (.goto 4, 3) := dk_167 0 4 (dk_at dksX6_seenFrom_3 0 rfl rfl)
theorem dX6_seenFrom_74 : decode cX6_seenFrom 74 = .ok (.iconst 0, 1) := dk_3 (dk_at dksX6_seenFrom_3 3 rfl rfl)
theorem dX6_seenFrom_75 : decode cX6_seenFrom 75 = .ok (.istore 5, 2) := dk_54 5 (dk_at dksX6_seenFrom_3 4 rfl rfl)
theorem dX6_seenFrom_77 : decode cX6_seenFrom 77 = .ok (.iload_n 2, 1) := dk_28 (dk_at dksX6_seenFrom_3 6 rfl rfl)
theorem dX6_seenFrom_78 : decode cX6_seenFrom 78 = .ok (.istore 6, 2) := dk_54 6 (dk_at dksX6_seenFrom_3 7 rfl rfl)
theorem dX6_seenFrom_80 : decode cX6_seenFrom 80 = .ok (.iconst (-1), 1) := dk_2 (dk_at dksX6_seenFrom_3 9 rfl rfl)
theorem dX6_seenFrom_81 : decode cX6_seenFrom 81 = .ok (.istore 7, 2) := dk_54 7 (dk_at dksX6_seenFrom_3 10 rfl rfl)
theorem dX6_seenFrom_83 : decode cX6_seenFrom 83 = .ok (.iconst 1, 1) := dk_4 (dk_at dksX6_seenFrom_3 12 rfl rfl)
theorem dX6_seenFrom_84 : decode cX6_seenFrom 84 = .ok (.istore 8, 2) := dk_54 8 (dk_at dksX6_seenFrom_3 13 rfl rfl)
theorem dX6_seenFrom_86 : decode cX6_seenFrom 86 = .ok (.iconst 0, 1) := dk_3 (dk_at dksX6_seenFrom_3 15 rfl rfl)
theorem dX6_seenFrom_87 : decode cX6_seenFrom 87 = .ok (.istore 9, 2) := dk_54 9 (dk_at dksX6_seenFrom_3 16 rfl rfl)
theorem dX6_seenFrom_89 : decode cX6_seenFrom 89 = .ok (.iload 9, 2) := dk_21 9 (dk_at dksX6_seenFrom_3 18 rfl rfl)
theorem dX6_seenFrom_91 : decode cX6_seenFrom 91 = .ok (.iload_n 3, 1) := dk_29 (dk_at dksX6_seenFrom_3 20 rfl rfl)
theorem dX6_seenFrom_92 : decode cX6_seenFrom 92 = .ok (.if_icmp .ge 96, 3) := dk_162 0 96 (dk_at dksX6_seenFrom_3 21 rfl rfl)
theorem dX6_seenFrom_95 : decode cX6_seenFrom 95 = .ok (.aload_n 0, 1) := dk_42 (dk_at dksX6_seenFrom_4 0 rfl rfl)
theorem dX6_seenFrom_96 : decode cX6_seenFrom 96 = .ok (.getfield 7, 3) := dk_180 0 7 (dk_at dksX6_seenFrom_4 1 rfl rfl)
theorem dX6_seenFrom_99 : decode cX6_seenFrom 99 = .ok (.bipush 23, 2) := dk_16 23 (dk_at dksX6_seenFrom_4 4 rfl rfl)
theorem dX6_seenFrom_101 : decode cX6_seenFrom 101 = .ok (.aload_n 0, 1) := dk_42 (dk_at dksX6_seenFrom_4 6 rfl rfl)
theorem dX6_seenFrom_102 : decode cX6_seenFrom 102 = .ok (.iload 4, 2) := dk_21 4 (dk_at dksX6_seenFrom_4 7 rfl rfl)
theorem dX6_seenFrom_104 : decode cX6_seenFrom 104 = .ok (.iload 5, 2) := dk_21 5 (dk_at dksX6_seenFrom_4 9 rfl rfl)
theorem dX6_seenFrom_106 : decode cX6_seenFrom 106 = .ok (.ifCond .eq 12, 3) := dk_153 0 12 (dk_at dksX6_seenFrom_4 11 rfl rfl)
theorem dX6_seenFrom_109 : decode cX6_seenFrom 109 = .ok (.iload_n 3, 1) := dk_29 (dk_at dksX6_seenFrom_4 14 rfl rfl)
theorem dX6_seenFrom_110 : decode cX6_seenFrom 110 = .ok (.iconst 1, 1) := dk_4 (dk_at dksX6_seenFrom_4 15 rfl rfl)
theorem dX6_seenFrom_111 : decode cX6_seenFrom 111 = .ok (.isub, 1) := dk_100 (dk_at dksX6_seenFrom_4 16 rfl rfl)
theorem dX6_seenFrom_112 : decode cX6_seenFrom 112 = .ok (.iload 9, 2) := dk_21 9 (dk_at dksX6_seenFrom_4 17 rfl rfl)
theorem dX6_seenFrom_114 : decode cX6_seenFrom 114 = .ok (.isub, 1) := dk_100 (dk_at dksX6_seenFrom_4 19 rfl rfl)
theorem dX6_seenFrom_115 : decode cX6_seenFrom 115 = .ok (.goto 5, 3) := dk_167 0 5 (dk_at dksX6_seenFrom_4 20 rfl rfl)
theorem dX6_seenFrom_118 : decode cX6_seenFrom 118 = .ok (.iload 9, 2) := dk_21 9 (dk_at dksX6_seenFrom_5 0 rfl rfl)
theorem dX6_seenFrom_120 : decode cX6_seenFrom 120 = .ok (.invokevirtual 99, 3) := dk_182 0 99 (dk_at dksX6_seenFrom_5 2 rfl rfl)
theorem dX6_seenFrom_123 : decode cX6_seenFrom 123 = .ok (.iadd, 1) := dk_96 (dk_at dksX6_seenFrom_5 5 rfl rfl)
theorem dX6_seenFrom_124 : decode cX6_seenFrom 124 = .ok (.iaload, 1) := dk_46 (dk_at dksX6_seenFrom_5 6 rfl rfl)
theorem dX6_seenFrom_125 : decode cX6_seenFrom 125 = .ok (.istore 10, 2) := dk_54 10 (dk_at dksX6_seenFrom_5 7 rfl rfl)
theorem dX6_seenFrom_127 : decode cX6_seenFrom 127 = .ok (.iload 8, 2) := dk_21 8 (dk_at dksX6_seenFrom_5 9 rfl rfl)
theorem dX6_seenFrom_129 : decode cX6_seenFrom 129 = .ok (.ifCond .eq 16, 3) := dk_153 0 16 (dk_at dksX6_seenFrom_5 11 rfl rfl)
theorem dX6_seenFrom_132 : decode cX6_seenFrom 132 = .ok (.aload_n 0, 1) := dk_42 (dk_at dksX6_seenFrom_5 14 rfl rfl)
theorem dX6_seenFrom_133 : decode cX6_seenFrom 133 = .ok (.iload 10, 2) := dk_21 10 (dk_at dksX6_seenFrom_5 15 rfl rfl)
theorem dX6_seenFrom_135 : decode cX6_seenFrom 135 = .ok (.invokevirtual 136, 3) := dk_182 0 136 (dk_at dksX6_seenFrom_5 17 rfl rfl)
theorem dX6_seenFrom_138 : decode cX6_seenFrom 138 = .ok (.ifCond .eq 7, 3) := dk_153 0 7 (dk_at dksX6_seenFrom_5 20 rfl rfl)
theorem dX6_seenFrom_141 : decode cX6_seenFrom 141 = .ok (.iconst 1, 1) := dk_4 (dk_at dksX6_seenFrom_5 23 rfl rfl)
theorem dX6_seenFrom_142 : decode cX6_seenFrom 142 = .ok (.goto 4, 3) := dk_167 0 4 (dk_at dksX6_seenFrom_6 0 rfl rfl)
theorem dX6_seenFrom_145 : decode cX6_seenFrom 145 = .ok (.iconst 0, 1) := dk_3 (dk_at dksX6_seenFrom_6 3 rfl rfl)
theorem dX6_seenFrom_146 : decode cX6_seenFrom 146 = .ok (.istore 8, 2) := dk_54 8 (dk_at dksX6_seenFrom_6 4 rfl rfl)
theorem dX6_seenFrom_148 : decode cX6_seenFrom 148 = .ok (.iload 10, 2) := dk_21 10 (dk_at dksX6_seenFrom_6 6 rfl rfl)
theorem dX6_seenFrom_150 : decode cX6_seenFrom 150 = .ok (.invokestatic 183, 3) := dk_184 0 183 (dk_at dksX6_seenFrom_6 8 rfl rfl)
theorem dX6_seenFrom_153 : decode cX6_seenFrom 153 = .ok (.aload_n 0, 1) := dk_42 (dk_at dksX6_seenFrom_6 11 rfl rfl)
theorem dX6_seenFrom_154 : decode cX6_seenFrom 154 = .ok (.getfield 7, 3) := dk_180 0 7 (dk_at dksX6_seenFrom_6 12 rfl rfl)
theorem dX6_seenFrom_157 : decode cX6_seenFrom 157 = .ok (.iconst 1, 1) := dk_4 (dk_at dksX6_seenFrom_6 15 rfl rfl)
theorem dX6_seenFrom_158 : decode cX6_seenFrom 158 = .ok (.iaload, 1) := dk_46 (dk_at dksX6_seenFrom_6 16 rfl rfl)
theorem dX6_seenFrom_159 : decode cX6_seenFrom 159 = .ok (.if_icmp .ge 23, 3) := dk_162 0 23 (dk_at dksX6_seenFrom_6 17 rfl rfl)
theorem dX6_seenFrom_162 : decode cX6_seenFrom 162 = .ok (.iload 6, 2) := dk_21 6 (dk_at dksX6_seenFrom_6 20 rfl rfl)
theorem dX6_seenFrom_164 : decode cX6_seenFrom 164 = .ok (.ifCond .ne 11, 3) := dk_154 0 11 (dk_at dksX6_seenFrom_7 0 rfl rfl)
theorem dX6_seenFrom_167 : decode cX6_seenFrom 167 = .ok (.iload 10, 2) := dk_21 10 (dk_at dksX6_seenFrom_7 3 rfl rfl)
theorem dX6_seenFrom_169 : decode cX6_seenFrom 169 = .ok (.invokestatic 183, 3) := dk_184 0 183 (dk_at dksX6_seenFrom_7 5 rfl rfl)
theorem dX6_seenFrom_172 : decode cX6_seenFrom 172 = .ok (.goto 5, 3) := dk_167 0 5 (dk_at dksX6_seenFrom_7 8 rfl rfl)
theorem dX6_seenFrom_175 : decode cX6_seenFrom 175 = .ok (.iload 7, 2) := dk_21 7 (dk_at dksX6_seenFrom_7 11 rfl rfl)
theorem dX6_seenFrom_177 : decode cX6_seenFrom 177 = .ok (.istore 7, 2) := dk_54 7 (dk_at dksX6_seenFrom_7 13 rfl rfl)
theorem dX6_seenFrom_179 : decode cX6_seenFrom 179 = .ok (.iinc 6 (-1), 3) := dk_132 6 255 (dk_at dksX6_seenFrom_7 15 rfl rfl)
theorem dX6_seenFrom_182 : decode cX6_seenFrom 182 = .ok (.iinc 9 1, 3) := dk_132 9 1 (dk_at dksX6_seenFrom_7 18 rfl rfl)
theorem dX6_seenFrom_185 : decode cX6_seenFrom 185 = .ok (.goto (-96), 3) := dk_167 255 160 (dk_at dksX6_seenFrom_7 21 rfl rfl)
theorem dX6_seenFrom_188 : decode cX6_seenFrom 188 = .ok (.iload 8, 2) := dk_21 8 (dk_at dksX6_seenFrom_8 0 rfl rfl)
theorem dX6_seenFrom_190 : decode cX6_seenFrom 190 = .ok (.ifCond .eq 8, 3) := dk_153 0 8 (dk_at dksX6_seenFrom_8 2 rfl rfl)
theorem dX6_seenFrom_193 : decode cX6_seenFrom 193 = .ok (.iload 7, 2) := dk_21 7 (dk_at dksX6_seenFrom_8 5 rfl rfl)
theorem dX6_seenFrom_195 : decode cX6_seenFrom 195 = .ok (.goto 4, 3) := dk_167 0 4 (dk_at dksX6_seenFrom_8 7 rfl rfl)
theorem dX6_seenFrom_198 : decode cX6_seenFrom 198 = .ok (.iconst (-1), 1) := dk_2 (dk_at dksX6_seenFrom_8 10 rfl rfl)
theorem dX6_seenFrom_199 : decode cX6_seenFrom 199 = .ok (.ireturn, 1) := dk_172 (dk_at dksX6_seenFrom_8 11 rfl rfl)
abbrev cX6_only : ByteArray := prog_10_method_19_code
def yX6_only : MethodName := ⟨RX6, "only", "(I)I"⟩
def dkwX6_only_1 : List UInt8 := [132, 2, 1, 167, 255, 235, 27, 172]
abbrev dktX6_only_1 : List UInt8 := dkwX6_only_1 ++ []
def dkwX6_only_0 : List UInt8 := [3, 60, 4, 61, 28, 8, 162, 0, 22, 26, 4, 28, 120, 160, 0, 7, 28, 167, 0, 4, 27, 60]
abbrev dktX6_only_0 : List UInt8 := dkwX6_only_0 ++ dktX6_only_1
theorem dksX6_only_0 : cX6_only.data.toList.drop 0 = dktX6_only_0 := by decide +kernel
theorem dksX6_only_1 : cX6_only.data.toList.drop 22 = dktX6_only_1 := dk_seg dksX6_only_0 22 rfl rfl
theorem dX6_only_0 : decode cX6_only 0 = .ok (.iconst 0, 1) := dk_3 (dk_at dksX6_only_0 0 rfl rfl)
theorem dX6_only_1 : decode cX6_only 1 = .ok (.istore_n 1, 1) := dk_60 (dk_at dksX6_only_0 1 rfl rfl)
theorem dX6_only_2 : decode cX6_only 2 = .ok (.iconst 1, 1) := dk_4 (dk_at dksX6_only_0 2 rfl rfl)
theorem dX6_only_3 : decode cX6_only 3 = .ok (.istore_n 2, 1) := dk_61 (dk_at dksX6_only_0 3 rfl rfl)
theorem dX6_only_4 : decode cX6_only 4 = .ok (.iload_n 2, 1) := dk_28 (dk_at dksX6_only_0 4 rfl rfl)
theorem dX6_only_5 : decode cX6_only 5 = .ok (.iconst 5, 1) := dk_8 (dk_at dksX6_only_0 5 rfl rfl)
theorem dX6_only_6 : decode cX6_only 6 = .ok (.if_icmp .ge 22, 3) := dk_162 0 22 (dk_at dksX6_only_0 6 rfl rfl)
theorem dX6_only_9 : decode cX6_only 9 = .ok (.iload_n 0, 1) := dk_26 (dk_at dksX6_only_0 9 rfl rfl)
theorem dX6_only_10 : decode cX6_only 10 = .ok (.iconst 1, 1) := dk_4 (dk_at dksX6_only_0 10 rfl rfl)
theorem dX6_only_11 : decode cX6_only 11 = .ok (.iload_n 2, 1) := dk_28 (dk_at dksX6_only_0 11 rfl rfl)
theorem dX6_only_12 : decode cX6_only 12 = .ok (.ishl, 1) := dk_120 (dk_at dksX6_only_0 12 rfl rfl)
theorem dX6_only_13 : decode cX6_only 13 = .ok (.if_icmp .ne 7, 3) := dk_160 0 7 (dk_at dksX6_only_0 13 rfl rfl)
theorem dX6_only_16 : decode cX6_only 16 = .ok (.iload_n 2, 1) := dk_28 (dk_at dksX6_only_0 16 rfl rfl)
theorem dX6_only_17 : decode cX6_only 17 = .ok (.goto 4, 3) := dk_167 0 4 (dk_at dksX6_only_0 17 rfl rfl)
theorem dX6_only_20 : decode cX6_only 20 = .ok (.iload_n 1, 1) := dk_27 (dk_at dksX6_only_0 20 rfl rfl)
theorem dX6_only_21 : decode cX6_only 21 = .ok (.istore_n 1, 1) := dk_60 (dk_at dksX6_only_0 21 rfl rfl)
theorem dX6_only_22 : decode cX6_only 22 = .ok (.iinc 2 1, 3) := dk_132 2 1 (dk_at dksX6_only_1 0 rfl rfl)
theorem dX6_only_25 : decode cX6_only 25 = .ok (.goto (-21), 3) := dk_167 255 235 (dk_at dksX6_only_1 3 rfl rfl)
theorem dX6_only_28 : decode cX6_only 28 = .ok (.iload_n 1, 1) := dk_27 (dk_at dksX6_only_1 6 rfl rfl)
theorem dX6_only_29 : decode cX6_only 29 = .ok (.ireturn, 1) := dk_172 (dk_at dksX6_only_1 7 rfl rfl)
abbrev cX6_reasonFor : ByteArray := prog_10_method_94_code
def yX6_reasonFor : MethodName := ⟨RX6, "reasonFor", "(II)I"⟩
def dkwX6_reasonFor_1 : List UInt8 := [167, 0, 4, 3, 172]
abbrev dktX6_reasonFor_1 : List UInt8 := dkwX6_reasonFor_1 ++ []
def dkwX6_reasonFor_0 : List UInt8 := [42, 42, 27, 182, 0, 251, 42, 28, 182, 0, 254, 4, 182, 0, 210, 153, 0, 12, 42, 27, 28, 182, 1, 13]
abbrev dktX6_reasonFor_0 : List UInt8 := dkwX6_reasonFor_0 ++ dktX6_reasonFor_1
theorem dksX6_reasonFor_0 : cX6_reasonFor.data.toList.drop 0 = dktX6_reasonFor_0 := by decide +kernel
theorem dksX6_reasonFor_1 : cX6_reasonFor.data.toList.drop 24 = dktX6_reasonFor_1 := dk_seg dksX6_reasonFor_0 24 rfl rfl
theorem dX6_reasonFor_0 : decode cX6_reasonFor 0 = .ok (.aload_n 0, 1) := dk_42 (dk_at dksX6_reasonFor_0 0 rfl rfl)
theorem dX6_reasonFor_1 : decode cX6_reasonFor 1 = .ok (.aload_n 0, 1) := dk_42 (dk_at dksX6_reasonFor_0 1 rfl rfl)
theorem dX6_reasonFor_2 : decode cX6_reasonFor 2 = .ok (.iload_n 1, 1) := dk_27 (dk_at dksX6_reasonFor_0 2 rfl rfl)
theorem dX6_reasonFor_3 : decode cX6_reasonFor 3 = .ok (.invokevirtual 251, 3) := dk_182 0 251 (dk_at dksX6_reasonFor_0 3 rfl rfl)
theorem dX6_reasonFor_6 : decode cX6_reasonFor 6 = .ok (.aload_n 0, 1) := dk_42 (dk_at dksX6_reasonFor_0 6 rfl rfl)
theorem dX6_reasonFor_7 : decode cX6_reasonFor 7 = .ok (.iload_n 2, 1) := dk_28 (dk_at dksX6_reasonFor_0 7 rfl rfl)
theorem dX6_reasonFor_8 : decode cX6_reasonFor 8 = .ok (.invokevirtual 254, 3) := dk_182 0 254 (dk_at dksX6_reasonFor_0 8 rfl rfl)
theorem dX6_reasonFor_11 : decode cX6_reasonFor 11 = .ok (.iconst 1, 1) := dk_4 (dk_at dksX6_reasonFor_0 11 rfl rfl)
theorem dX6_reasonFor_12 : decode cX6_reasonFor 12 = .ok (.invokevirtual 210, 3) := dk_182 0 210 (dk_at dksX6_reasonFor_0 12 rfl rfl)
theorem dX6_reasonFor_15 : decode cX6_reasonFor 15 = .ok (.ifCond .eq 12, 3) := dk_153 0 12 (dk_at dksX6_reasonFor_0 15 rfl rfl)
theorem dX6_reasonFor_18 : decode cX6_reasonFor 18 = .ok (.aload_n 0, 1) := dk_42 (dk_at dksX6_reasonFor_0 18 rfl rfl)
theorem dX6_reasonFor_19 : decode cX6_reasonFor 19 = .ok (.iload_n 1, 1) := dk_27 (dk_at dksX6_reasonFor_0 19 rfl rfl)
theorem dX6_reasonFor_20 : decode cX6_reasonFor 20 = .ok (.iload_n 2, 1) := dk_28 (dk_at dksX6_reasonFor_0 20 rfl rfl)
theorem dX6_reasonFor_21 : decode cX6_reasonFor 21 = .ok (.invokevirtual 269, 3) := dk_182 1 13 (dk_at dksX6_reasonFor_0 21 rfl rfl)
theorem dX6_reasonFor_24 : decode cX6_reasonFor 24 = .ok (.goto 4, 3) := dk_167 0 4 (dk_at dksX6_reasonFor_1 0 rfl rfl)
theorem dX6_reasonFor_27 : decode cX6_reasonFor 27 = .ok (.iconst 0, 1) := dk_3 (dk_at dksX6_reasonFor_1 3 rfl rfl)
theorem dX6_reasonFor_28 : decode cX6_reasonFor 28 = .ok (.ireturn, 1) := dk_172 (dk_at dksX6_reasonFor_1 4 rfl rfl)
abbrev cX6_reason : ByteArray := prog_10_method_93_code
def yX6_reason : MethodName := ⟨RX6, "reason", "(II)I"⟩
def dkwX6_reason_3 : List UInt8 := [42, 3, 27, 28, 42, 182, 0, 188, 182, 0, 170, 153, 0, 8, 16, 6, 167, 0, 4, 3, 172]
abbrev dktX6_reason_3 : List UInt8 := dkwX6_reason_3 ++ []
def dkwX6_reason_2 : List UInt8 := [162, 0, 24, 42, 21, 4, 3, 27, 28, 182, 0, 167, 153, 0, 6, 21, 4, 172, 132, 4, 1, 167, 255, 231]
abbrev dktX6_reason_2 : List UInt8 := dkwX6_reason_2 ++ dktX6_reason_3
def dkwX6_reason_1 : List UInt8 := [29, 182, 0, 136, 154, 0, 11, 42, 3, 182, 0, 130, 153, 0, 5, 3, 172, 4, 54, 4, 21, 4, 16, 6]
abbrev dktX6_reason_1 : List UInt8 := dkwX6_reason_1 ++ dktX6_reason_2
def dkwX6_reason_0 : List UInt8 := [42, 3, 182, 0, 126, 42, 180, 0, 7, 16, 23, 27, 96, 46, 62, 29, 28, 184, 0, 102, 153, 0, 19, 42]
abbrev dktX6_reason_0 : List UInt8 := dkwX6_reason_0 ++ dktX6_reason_1
theorem dksX6_reason_0 : cX6_reason.data.toList.drop 0 = dktX6_reason_0 := by decide +kernel
theorem dksX6_reason_1 : cX6_reason.data.toList.drop 24 = dktX6_reason_1 := dk_seg dksX6_reason_0 24 rfl rfl
theorem dksX6_reason_2 : cX6_reason.data.toList.drop 48 = dktX6_reason_2 := dk_seg dksX6_reason_1 24 rfl rfl
theorem dksX6_reason_3 : cX6_reason.data.toList.drop 72 = dktX6_reason_3 := dk_seg dksX6_reason_2 24 rfl rfl
theorem dX6_reason_0 : decode cX6_reason 0 = .ok (.aload_n 0, 1) := dk_42 (dk_at dksX6_reason_0 0 rfl rfl)
theorem dX6_reason_1 : decode cX6_reason 1 = .ok (.iconst 0, 1) := dk_3 (dk_at dksX6_reason_0 1 rfl rfl)
theorem dX6_reason_2 : decode cX6_reason 2 = .ok (.invokevirtual 126, 3) := dk_182 0 126 (dk_at dksX6_reason_0 2 rfl rfl)
theorem dX6_reason_5 : decode cX6_reason 5 = .ok (.aload_n 0, 1) := dk_42 (dk_at dksX6_reason_0 5 rfl rfl)
theorem dX6_reason_6 : decode cX6_reason 6 = .ok (.getfield 7, 3) := dk_180 0 7 (dk_at dksX6_reason_0 6 rfl rfl)
theorem dX6_reason_9 : decode cX6_reason 9 = .ok (.bipush 23, 2) := dk_16 23 (dk_at dksX6_reason_0 9 rfl rfl)
theorem dX6_reason_11 : decode cX6_reason 11 = .ok (.iload_n 1, 1) := dk_27 (dk_at dksX6_reason_0 11 rfl rfl)
theorem dX6_reason_12 : decode cX6_reason 12 = .ok (.iadd, 1) := dk_96 (dk_at dksX6_reason_0 12 rfl rfl)
theorem dX6_reason_13 : decode cX6_reason 13 = .ok (.iaload, 1) := dk_46 (dk_at dksX6_reason_0 13 rfl rfl)
theorem dX6_reason_14 : decode cX6_reason 14 = .ok (.istore_n 3, 1) := dk_62 (dk_at dksX6_reason_0 14 rfl rfl)
theorem dX6_reason_15 : decode cX6_reason 15 = .ok (.iload_n 3, 1) := dk_29 (dk_at dksX6_reason_0 15 rfl rfl)
theorem dX6_reason_16 : decode cX6_reason 16 = .ok (.iload_n 2, 1) := dk_28 (dk_at dksX6_reason_0 16 rfl rfl)
theorem dX6_reason_17 : decode cX6_reason 17 = .ok (.invokestatic 102, 3) := dk_184 0 102 (dk_at dksX6_reason_0 17 rfl rfl)
theorem dX6_reason_20 : decode cX6_reason 20 = .ok (.ifCond .eq 19, 3) := dk_153 0 19 (dk_at dksX6_reason_0 20 rfl rfl)
theorem dX6_reason_23 : decode cX6_reason 23 = .ok (.aload_n 0, 1) := dk_42 (dk_at dksX6_reason_0 23 rfl rfl)
theorem dX6_reason_24 : decode cX6_reason 24 = .ok (.iload_n 3, 1) := dk_29 (dk_at dksX6_reason_1 0 rfl rfl)
theorem dX6_reason_25 : decode cX6_reason 25 = .ok (.invokevirtual 136, 3) := dk_182 0 136 (dk_at dksX6_reason_1 1 rfl rfl)
theorem dX6_reason_28 : decode cX6_reason 28 = .ok (.ifCond .ne 11, 3) := dk_154 0 11 (dk_at dksX6_reason_1 4 rfl rfl)
theorem dX6_reason_31 : decode cX6_reason 31 = .ok (.aload_n 0, 1) := dk_42 (dk_at dksX6_reason_1 7 rfl rfl)
theorem dX6_reason_32 : decode cX6_reason 32 = .ok (.iconst 0, 1) := dk_3 (dk_at dksX6_reason_1 8 rfl rfl)
theorem dX6_reason_33 : decode cX6_reason 33 = .ok (.invokevirtual 130, 3) := dk_182 0 130 (dk_at dksX6_reason_1 9 rfl rfl)
theorem dX6_reason_36 : decode cX6_reason 36 = .ok (.ifCond .eq 5, 3) := dk_153 0 5 (dk_at dksX6_reason_1 12 rfl rfl)
theorem dX6_reason_39 : decode cX6_reason 39 = .ok (.iconst 0, 1) := dk_3 (dk_at dksX6_reason_1 15 rfl rfl)
theorem dX6_reason_40 : decode cX6_reason 40 = .ok (.ireturn, 1) := dk_172 (dk_at dksX6_reason_1 16 rfl rfl)
theorem dX6_reason_41 : decode cX6_reason 41 = .ok (.iconst 1, 1) := dk_4 (dk_at dksX6_reason_1 17 rfl rfl)
theorem dX6_reason_42 : decode cX6_reason 42 = .ok (.istore 4, 2) := dk_54 4 (dk_at dksX6_reason_1 18 rfl rfl)
theorem dX6_reason_44 : decode cX6_reason 44 = .ok (.iload 4, 2) := dk_21 4 (dk_at dksX6_reason_1 20 rfl rfl)
theorem dX6_reason_46 : decode cX6_reason 46 = .ok (.bipush 6, 2) := dk_16 6 (dk_at dksX6_reason_1 22 rfl rfl)
theorem dX6_reason_48 : decode cX6_reason 48 = .ok (.if_icmp .ge 24, 3) := dk_162 0 24 (dk_at dksX6_reason_2 0 rfl rfl)
theorem dX6_reason_51 : decode cX6_reason 51 = .ok (.aload_n 0, 1) := dk_42 (dk_at dksX6_reason_2 3 rfl rfl)
theorem dX6_reason_52 : decode cX6_reason 52 = .ok (.iload 4, 2) := dk_21 4 (dk_at dksX6_reason_2 4 rfl rfl)
theorem dX6_reason_54 : decode cX6_reason 54 = .ok (.iconst 0, 1) := dk_3 (dk_at dksX6_reason_2 6 rfl rfl)
theorem dX6_reason_55 : decode cX6_reason 55 = .ok (.iload_n 1, 1) := dk_27 (dk_at dksX6_reason_2 7 rfl rfl)
theorem dX6_reason_56 : decode cX6_reason 56 = .ok (.iload_n 2, 1) := dk_28 (dk_at dksX6_reason_2 8 rfl rfl)
theorem dX6_reason_57 : decode cX6_reason 57 = .ok (.invokevirtual 167, 3) := dk_182 0 167 (dk_at dksX6_reason_2 9 rfl rfl)
theorem dX6_reason_60 : decode cX6_reason 60 = .ok (.ifCond .eq 6, 3) := dk_153 0 6 (dk_at dksX6_reason_2 12 rfl rfl)
theorem dX6_reason_63 : decode cX6_reason 63 = .ok (.iload 4, 2) := dk_21 4 (dk_at dksX6_reason_2 15 rfl rfl)
theorem dX6_reason_65 : decode cX6_reason 65 = .ok (.ireturn, 1) := dk_172 (dk_at dksX6_reason_2 17 rfl rfl)
theorem dX6_reason_66 : decode cX6_reason 66 = .ok (.iinc 4 1, 3) := dk_132 4 1 (dk_at dksX6_reason_2 18 rfl rfl)
theorem dX6_reason_69 : decode cX6_reason 69 = .ok (.goto (-25), 3) := dk_167 255 231 (dk_at dksX6_reason_2 21 rfl rfl)
theorem dX6_reason_72 : decode cX6_reason 72 = .ok (.aload_n 0, 1) := dk_42 (dk_at dksX6_reason_3 0 rfl rfl)
theorem dX6_reason_73 : decode cX6_reason 73 = .ok (.iconst 0, 1) := dk_3 (dk_at dksX6_reason_3 1 rfl rfl)
theorem dX6_reason_74 : decode cX6_reason 74 = .ok (.iload_n 1, 1) := dk_27 (dk_at dksX6_reason_3 2 rfl rfl)
theorem dX6_reason_75 : decode cX6_reason 75 = .ok (.iload_n 2, 1) := dk_28 (dk_at dksX6_reason_3 3 rfl rfl)
theorem dX6_reason_76 : decode cX6_reason 76 = .ok (.aload_n 0, 1) := dk_42 (dk_at dksX6_reason_3 4 rfl rfl)
theorem dX6_reason_77 : decode cX6_reason 77 = .ok (.invokevirtual 188, 3) := dk_182 0 188 (dk_at dksX6_reason_3 5 rfl rfl)
theorem dX6_reason_80 : decode cX6_reason 80 = .ok (.invokevirtual 170, 3) := dk_182 0 170 (dk_at dksX6_reason_3 8 rfl rfl)
theorem dX6_reason_83 : decode cX6_reason 83 = .ok (.ifCond .eq 8, 3) := dk_153 0 8 (dk_at dksX6_reason_3 11 rfl rfl)
theorem dX6_reason_86 : decode cX6_reason 86 = .ok (.bipush 6, 2) := dk_16 6 (dk_at dksX6_reason_3 14 rfl rfl)
theorem dX6_reason_88 : decode cX6_reason 88 = .ok (.goto 4, 3) := dk_167 0 4 (dk_at dksX6_reason_3 16 rfl rfl)
theorem dX6_reason_91 : decode cX6_reason 91 = .ok (.iconst 0, 1) := dk_3 (dk_at dksX6_reason_3 19 rfl rfl)
theorem dX6_reason_92 : decode cX6_reason 92 = .ok (.ireturn, 1) := dk_172 (dk_at dksX6_reason_3 20 rfl rfl)
abbrev cX6_holds : ByteArray := prog_10_method_44_code
def yX6_holds : MethodName := ⟨RX6, "holds", "(IIII)Z"⟩
def dkwX6_holds_8 : List UInt8 := [167, 255, 86, 21, 5, 172]
abbrev dktX6_holds_8 : List UInt8 := dkwX6_holds_8 ++ []
def dkwX6_holds_7 : List UInt8 := [182, 0, 144, 96, 46, 21, 4, 184, 0, 102, 154, 0, 7, 4, 167, 0, 4, 3, 54, 5, 132, 7, 1]
abbrev dktX6_holds_7 : List UInt8 := dkwX6_holds_7 ++ dktX6_holds_8
def dkwX6_holds_6 : List UInt8 := [29, 21, 4, 182, 0, 158, 54, 5, 167, 0, 35, 42, 180, 0, 33, 8, 21, 7, 104, 42, 21, 7, 29]
abbrev dktX6_holds_6 : List UInt8 := dkwX6_holds_6 ++ dktX6_holds_7
def dkwX6_holds_5 : List UInt8 := [54, 5, 167, 0, 65, 42, 28, 21, 7, 29, 21, 4, 182, 0, 155, 54, 5, 167, 0, 50, 42, 28, 21, 7]
abbrev dktX6_holds_5 : List UInt8 := dkwX6_holds_5 ++ dktX6_holds_6
def dkwX6_holds_4 : List UInt8 := [158, 0, 7, 4, 167, 0, 4, 3, 54, 5, 167, 0, 80, 42, 28, 21, 7, 29, 21, 4, 182, 0, 151]
abbrev dktX6_holds_4 : List UInt8 := dkwX6_holds_4 ++ dktX6_holds_5
def dkwX6_holds_3 : List UInt8 := [21, 4, 42, 180, 0, 7, 4, 46, 162, 0, 21, 42, 28, 21, 7, 29, 21, 4, 4, 182, 0, 147]
abbrev dktX6_holds_3 : List UInt8 := dkwX6_holds_3 ++ dktX6_holds_4
def dkwX6_holds_2 : List UInt8 := [170, 0, 0, 0, 0, 110, 0, 0, 0, 1, 0, 0, 0, 4, 0, 0, 0, 30, 0, 0, 0, 65, 0, 0, 0, 80, 0, 0, 0, 95]
abbrev dktX6_holds_2 : List UInt8 := dkwX6_holds_2 ++ dktX6_holds_3
def dkwX6_holds_1 : List UInt8 := [154, 0, 162, 21, 6, 21, 7, 184, 0, 102, 153, 0, 146, 27]
abbrev dktX6_holds_1 : List UInt8 := dkwX6_holds_1 ++ dktX6_holds_2
def dkwX6_holds_0 : List UInt8 := [3, 54, 5, 42, 29, 182, 0, 122, 54, 6, 3, 54, 7, 21, 7, 42, 182, 0, 77, 162, 0, 167, 21, 5]
abbrev dktX6_holds_0 : List UInt8 := dkwX6_holds_0 ++ dktX6_holds_1
theorem dksX6_holds_0 : cX6_holds.data.toList.drop 0 = dktX6_holds_0 := by decide +kernel
theorem dksX6_holds_1 : cX6_holds.data.toList.drop 24 = dktX6_holds_1 := dk_seg dksX6_holds_0 24 rfl rfl
theorem dksX6_holds_2 : cX6_holds.data.toList.drop 38 = dktX6_holds_2 := dk_seg dksX6_holds_1 14 rfl rfl
theorem dksX6_holds_3 : cX6_holds.data.toList.drop 68 = dktX6_holds_3 := dk_seg dksX6_holds_2 30 rfl rfl
theorem dksX6_holds_4 : cX6_holds.data.toList.drop 90 = dktX6_holds_4 := dk_seg dksX6_holds_3 22 rfl rfl
theorem dksX6_holds_5 : cX6_holds.data.toList.drop 113 = dktX6_holds_5 := dk_seg dksX6_holds_4 23 rfl rfl
theorem dksX6_holds_6 : cX6_holds.data.toList.drop 137 = dktX6_holds_6 := dk_seg dksX6_holds_5 24 rfl rfl
theorem dksX6_holds_7 : cX6_holds.data.toList.drop 160 = dktX6_holds_7 := dk_seg dksX6_holds_6 23 rfl rfl
theorem dksX6_holds_8 : cX6_holds.data.toList.drop 183 = dktX6_holds_8 := dk_seg dksX6_holds_7 23 rfl rfl
theorem dX6_holds_0 : decode cX6_holds 0 = .ok (.iconst 0, 1) := dk_3 (dk_at dksX6_holds_0 0 rfl rfl)
theorem dX6_holds_1 : decode cX6_holds 1 = .ok (.istore 5, 2) := dk_54 5 (dk_at dksX6_holds_0 1 rfl rfl)
theorem dX6_holds_3 : decode cX6_holds 3 = .ok (.aload_n 0, 1) := dk_42 (dk_at dksX6_holds_0 3 rfl rfl)
theorem dX6_holds_4 : decode cX6_holds 4 = .ok (.iload_n 3, 1) := dk_29 (dk_at dksX6_holds_0 4 rfl rfl)
theorem dX6_holds_5 : decode cX6_holds 5 = .ok (.invokevirtual 122, 3) := dk_182 0 122 (dk_at dksX6_holds_0 5 rfl rfl)
theorem dX6_holds_8 : decode cX6_holds 8 = .ok (.istore 6, 2) := dk_54 6 (dk_at dksX6_holds_0 8 rfl rfl)
theorem dX6_holds_10 : decode cX6_holds 10 = .ok (.iconst 0, 1) := dk_3 (dk_at dksX6_holds_0 10 rfl rfl)
theorem dX6_holds_11 : decode cX6_holds 11 = .ok (.istore 7, 2) := dk_54 7 (dk_at dksX6_holds_0 11 rfl rfl)
theorem dX6_holds_13 : decode cX6_holds 13 = .ok (.iload 7, 2) := dk_21 7 (dk_at dksX6_holds_0 13 rfl rfl)
theorem dX6_holds_15 : decode cX6_holds 15 = .ok (.aload_n 0, 1) := dk_42 (dk_at dksX6_holds_0 15 rfl rfl)
theorem dX6_holds_16 : decode cX6_holds 16 = .ok (.invokevirtual 77, 3) := dk_182 0 77 (dk_at dksX6_holds_0 16 rfl rfl)
theorem dX6_holds_19 : decode cX6_holds 19 = .ok (.if_icmp .ge 167, 3) := dk_162 0 167 (dk_at dksX6_holds_0 19 rfl rfl)
theorem dX6_holds_22 : decode cX6_holds 22 = .ok (.iload 5, 2) := dk_21 5 (dk_at dksX6_holds_0 22 rfl rfl)
theorem dX6_holds_24 : decode cX6_holds 24 = .ok (.ifCond .ne 162, 3) := dk_154 0 162 (dk_at dksX6_holds_1 0 rfl rfl)
theorem dX6_holds_27 : decode cX6_holds 27 = .ok (.iload 6, 2) := dk_21 6 (dk_at dksX6_holds_1 3 rfl rfl)
theorem dX6_holds_29 : decode cX6_holds 29 = .ok (.iload 7, 2) := dk_21 7 (dk_at dksX6_holds_1 5 rfl rfl)
theorem dX6_holds_31 : decode cX6_holds 31 = .ok (.invokestatic 102, 3) := dk_184 0 102 (dk_at dksX6_holds_1 7 rfl rfl)
theorem dX6_holds_34 : decode cX6_holds 34 = .ok (.ifCond .eq 146, 3) := dk_153 0 146 (dk_at dksX6_holds_1 10 rfl rfl)
theorem dX6_holds_37 : decode cX6_holds 37 = .ok (.iload_n 1, 1) := dk_27 (dk_at dksX6_holds_1 13 rfl rfl)
theorem dX6_holds_38 : decode cX6_holds 38 = .ok (.tableswitch 110 1 4 #[30, 65, 80, 95], 30) := by decide +kernel
theorem dX6_holds_68 : decode cX6_holds 68 = .ok (.iload 4, 2) := dk_21 4 (dk_at dksX6_holds_3 0 rfl rfl)
theorem dX6_holds_70 : decode cX6_holds 70 = .ok (.aload_n 0, 1) := dk_42 (dk_at dksX6_holds_3 2 rfl rfl)
theorem dX6_holds_71 : decode cX6_holds 71 = .ok (.getfield 7, 3) := dk_180 0 7 (dk_at dksX6_holds_3 3 rfl rfl)
theorem dX6_holds_74 : decode cX6_holds 74 = .ok (.iconst 1, 1) := dk_4 (dk_at dksX6_holds_3 6 rfl rfl)
theorem dX6_holds_75 : decode cX6_holds 75 = .ok (.iaload, 1) := dk_46 (dk_at dksX6_holds_3 7 rfl rfl)
theorem dX6_holds_76 : decode cX6_holds 76 = .ok (.if_icmp .ge 21, 3) := dk_162 0 21 (dk_at dksX6_holds_3 8 rfl rfl)
theorem dX6_holds_79 : decode cX6_holds 79 = .ok (.aload_n 0, 1) := dk_42 (dk_at dksX6_holds_3 11 rfl rfl)
theorem dX6_holds_80 : decode cX6_holds 80 = .ok (.iload_n 2, 1) := dk_28 (dk_at dksX6_holds_3 12 rfl rfl)
theorem dX6_holds_81 : decode cX6_holds 81 = .ok (.iload 7, 2) := dk_21 7 (dk_at dksX6_holds_3 13 rfl rfl)
theorem dX6_holds_83 : decode cX6_holds 83 = .ok (.iload_n 3, 1) := dk_29 (dk_at dksX6_holds_3 15 rfl rfl)
theorem dX6_holds_84 : decode cX6_holds 84 = .ok (.iload 4, 2) := dk_21 4 (dk_at dksX6_holds_3 16 rfl rfl)
theorem dX6_holds_86 : decode cX6_holds 86 = .ok (.iconst 1, 1) := dk_4 (dk_at dksX6_holds_3 18 rfl rfl)
theorem dX6_holds_87 : decode cX6_holds 87 = .ok (.invokevirtual 147, 3) := dk_182 0 147 (dk_at dksX6_holds_3 19 rfl rfl)
theorem dX6_holds_90 : decode cX6_holds 90 = .ok (.ifCond .le 7, 3) := dk_158 0 7 (dk_at dksX6_holds_4 0 rfl rfl)
theorem dX6_holds_93 : decode cX6_holds 93 = .ok (.iconst 1, 1) := dk_4 (dk_at dksX6_holds_4 3 rfl rfl)
theorem dX6_holds_94 : decode cX6_holds 94 = .ok (.goto 4, 3) := dk_167 0 4 (dk_at dksX6_holds_4 4 rfl rfl)
theorem dX6_holds_97 : decode cX6_holds 97 = .ok (.iconst 0, 1) := dk_3 (dk_at dksX6_holds_4 7 rfl rfl)
theorem dX6_holds_98 : decode cX6_holds 98 = .ok (.istore 5, 2) := dk_54 5 (dk_at dksX6_holds_4 8 rfl rfl)
theorem dX6_holds_100 : decode cX6_holds 100 = .ok (.goto 80, 3) := dk_167 0 80 (dk_at dksX6_holds_4 10 rfl rfl)
theorem dX6_holds_103 : decode cX6_holds 103 = .ok (.aload_n 0, 1) := dk_42 (dk_at dksX6_holds_4 13 rfl rfl)
theorem dX6_holds_104 : decode cX6_holds 104 = .ok (.iload_n 2, 1) := dk_28 (dk_at dksX6_holds_4 14 rfl rfl)
theorem dX6_holds_105 : decode cX6_holds 105 = .ok (.iload 7, 2) := dk_21 7 (dk_at dksX6_holds_4 15 rfl rfl)
theorem dX6_holds_107 : decode cX6_holds 107 = .ok (.iload_n 3, 1) := dk_29 (dk_at dksX6_holds_4 17 rfl rfl)
theorem dX6_holds_108 : decode cX6_holds 108 = .ok (.iload 4, 2) := dk_21 4 (dk_at dksX6_holds_4 18 rfl rfl)
theorem dX6_holds_110 : decode cX6_holds 110 = .ok (.invokevirtual 151, 3) := dk_182 0 151 (dk_at dksX6_holds_4 20 rfl rfl)
theorem dX6_holds_113 : decode cX6_holds 113 = .ok (.istore 5, 2) := dk_54 5 (dk_at dksX6_holds_5 0 rfl rfl)
theorem dX6_holds_115 : decode cX6_holds 115 = .ok (.goto 65, 3) := dk_167 0 65 (dk_at dksX6_holds_5 2 rfl rfl)
theorem dX6_holds_118 : decode cX6_holds 118 = .ok (.aload_n 0, 1) := dk_42 (dk_at dksX6_holds_5 5 rfl rfl)
theorem dX6_holds_119 : decode cX6_holds 119 = .ok (.iload_n 2, 1) := dk_28 (dk_at dksX6_holds_5 6 rfl rfl)
theorem dX6_holds_120 : decode cX6_holds 120 = .ok (.iload 7, 2) := dk_21 7 (dk_at dksX6_holds_5 7 rfl rfl)
theorem dX6_holds_122 : decode cX6_holds 122 = .ok (.iload_n 3, 1) := dk_29 (dk_at dksX6_holds_5 9 rfl rfl)
theorem dX6_holds_123 : decode cX6_holds 123 = .ok (.iload 4, 2) := dk_21 4 (dk_at dksX6_holds_5 10 rfl rfl)
theorem dX6_holds_125 : decode cX6_holds 125 = .ok (.invokevirtual 155, 3) := dk_182 0 155 (dk_at dksX6_holds_5 12 rfl rfl)
theorem dX6_holds_128 : decode cX6_holds 128 = .ok (.istore 5, 2) := dk_54 5 (dk_at dksX6_holds_5 15 rfl rfl)
theorem dX6_holds_130 : decode cX6_holds 130 = .ok (.goto 50, 3) := dk_167 0 50 (dk_at dksX6_holds_5 17 rfl rfl)
theorem dX6_holds_133 : decode cX6_holds 133 = .ok (.aload_n 0, 1) := dk_42 (dk_at dksX6_holds_5 20 rfl rfl)
theorem dX6_holds_134 : decode cX6_holds 134 = .ok (.iload_n 2, 1) := dk_28 (dk_at dksX6_holds_5 21 rfl rfl)
theorem dX6_holds_135 : decode cX6_holds 135 = .ok (.iload 7, 2) := dk_21 7 (dk_at dksX6_holds_5 22 rfl rfl)
theorem dX6_holds_137 : decode cX6_holds 137 = .ok (.iload_n 3, 1) := dk_29 (dk_at dksX6_holds_6 0 rfl rfl)
theorem dX6_holds_138 : decode cX6_holds 138 = .ok (.iload 4, 2) := dk_21 4 (dk_at dksX6_holds_6 1 rfl rfl)
theorem dX6_holds_140 : decode cX6_holds 140 = .ok (.invokevirtual 158, 3) := dk_182 0 158 (dk_at dksX6_holds_6 3 rfl rfl)
theorem dX6_holds_143 : decode cX6_holds 143 = .ok (.istore 5, 2) := dk_54 5 (dk_at dksX6_holds_6 6 rfl rfl)
theorem dX6_holds_145 : decode cX6_holds 145 = .ok (.goto 35, 3) := dk_167 0 35 (dk_at dksX6_holds_6 8 rfl rfl)
theorem dX6_holds_148 : decode cX6_holds 148 = .ok (.aload_n 0, 1) := dk_42 (dk_at dksX6_holds_6 11 rfl rfl)
theorem dX6_holds_149 : decode cX6_holds 149 = .ok (.getfield 33, 3) := dk_180 0 33 (dk_at dksX6_holds_6 12 rfl rfl)
theorem dX6_holds_152 : decode cX6_holds 152 = .ok (.iconst 5, 1) := dk_8 (dk_at dksX6_holds_6 15 rfl rfl)
theorem dX6_holds_153 : decode cX6_holds 153 = .ok (.iload 7, 2) := dk_21 7 (dk_at dksX6_holds_6 16 rfl rfl)
theorem dX6_holds_155 : decode cX6_holds 155 = .ok (.imul, 1) := dk_104 (dk_at dksX6_holds_6 18 rfl rfl)
theorem dX6_holds_156 : decode cX6_holds 156 = .ok (.aload_n 0, 1) := dk_42 (dk_at dksX6_holds_6 19 rfl rfl)
theorem dX6_holds_157 : decode cX6_holds 157 = .ok (.iload 7, 2) := dk_21 7 (dk_at dksX6_holds_6 20 rfl rfl)
theorem dX6_holds_159 : decode cX6_holds 159 = .ok (.iload_n 3, 1) := dk_29 (dk_at dksX6_holds_6 22 rfl rfl)
theorem dX6_holds_160 : decode cX6_holds 160 = .ok (.invokevirtual 144, 3) := dk_182 0 144 (dk_at dksX6_holds_7 0 rfl rfl)
theorem dX6_holds_163 : decode cX6_holds 163 = .ok (.iadd, 1) := dk_96 (dk_at dksX6_holds_7 3 rfl rfl)
theorem dX6_holds_164 : decode cX6_holds 164 = .ok (.iaload, 1) := dk_46 (dk_at dksX6_holds_7 4 rfl rfl)
theorem dX6_holds_165 : decode cX6_holds 165 = .ok (.iload 4, 2) := dk_21 4 (dk_at dksX6_holds_7 5 rfl rfl)
theorem dX6_holds_167 : decode cX6_holds 167 = .ok (.invokestatic 102, 3) := dk_184 0 102 (dk_at dksX6_holds_7 7 rfl rfl)
theorem dX6_holds_170 : decode cX6_holds 170 = .ok (.ifCond .ne 7, 3) := dk_154 0 7 (dk_at dksX6_holds_7 10 rfl rfl)
theorem dX6_holds_173 : decode cX6_holds 173 = .ok (.iconst 1, 1) := dk_4 (dk_at dksX6_holds_7 13 rfl rfl)
theorem dX6_holds_174 : decode cX6_holds 174 = .ok (.goto 4, 3) := dk_167 0 4 (dk_at dksX6_holds_7 14 rfl rfl)
theorem dX6_holds_177 : decode cX6_holds 177 = .ok (.iconst 0, 1) := dk_3 (dk_at dksX6_holds_7 17 rfl rfl)
theorem dX6_holds_178 : decode cX6_holds 178 = .ok (.istore 5, 2) := dk_54 5 (dk_at dksX6_holds_7 18 rfl rfl)
theorem dX6_holds_180 : decode cX6_holds 180 = .ok (.iinc 7 1, 3) := dk_132 7 1 (dk_at dksX6_holds_7 20 rfl rfl)
theorem dX6_holds_183 : decode cX6_holds 183 = .ok (.goto (-170), 3) := dk_167 255 86 (dk_at dksX6_holds_8 0 rfl rfl)
theorem dX6_holds_186 : decode cX6_holds 186 = .ok (.iload 5, 2) := dk_21 5 (dk_at dksX6_holds_8 3 rfl rfl)
theorem dX6_holds_188 : decode cX6_holds 188 = .ok (.ireturn, 1) := dk_172 (dk_at dksX6_holds_8 5 rfl rfl)
abbrev cX6_linesOf : ByteArray := prog_10_method_23_code
def yX6_linesOf : MethodName := ⟨RX6, "linesOf", "(I)I"⟩
def dkwX6_linesOf_3 : List UInt8 := [21, 4, 96, 28, 4, 100, 160, 0, 11, 5, 5, 28, 104, 120, 167, 0, 4, 3, 128, 172]
abbrev dktX6_linesOf_3 : List UInt8 := dkwX6_linesOf_3 ++ []
def dkwX6_linesOf_2 : List UInt8 := [28, 104, 120, 167, 0, 4, 3, 128, 54, 5, 21, 5, 42, 180, 0, 7, 5, 46, 4, 160, 0, 21, 29]
abbrev dktX6_linesOf_2 : List UInt8 := dkwX6_linesOf_2 ++ dktX6_linesOf_3
def dkwX6_linesOf_1 : List UInt8 := [120, 128, 54, 5, 21, 5, 42, 180, 0, 7, 5, 46, 4, 160, 0, 17, 29, 21, 4, 160, 0, 11, 4, 5]
abbrev dktX6_linesOf_1 : List UInt8 := dkwX6_linesOf_1 ++ dktX6_linesOf_2
def dkwX6_linesOf_0 : List UInt8 := [42, 180, 0, 7, 3, 46, 61, 27, 28, 108, 62, 27, 28, 112, 54, 4, 4, 29, 120, 4, 28, 21, 4, 96]
abbrev dktX6_linesOf_0 : List UInt8 := dkwX6_linesOf_0 ++ dktX6_linesOf_1
theorem dksX6_linesOf_0 : cX6_linesOf.data.toList.drop 0 = dktX6_linesOf_0 := by decide +kernel
theorem dksX6_linesOf_1 : cX6_linesOf.data.toList.drop 24 = dktX6_linesOf_1 := dk_seg dksX6_linesOf_0 24 rfl rfl
theorem dksX6_linesOf_2 : cX6_linesOf.data.toList.drop 48 = dktX6_linesOf_2 := dk_seg dksX6_linesOf_1 24 rfl rfl
theorem dksX6_linesOf_3 : cX6_linesOf.data.toList.drop 71 = dktX6_linesOf_3 := dk_seg dksX6_linesOf_2 23 rfl rfl
theorem dX6_linesOf_0 : decode cX6_linesOf 0 = .ok (.aload_n 0, 1) := dk_42 (dk_at dksX6_linesOf_0 0 rfl rfl)
theorem dX6_linesOf_1 : decode cX6_linesOf 1 = .ok (.getfield 7, 3) := dk_180 0 7 (dk_at dksX6_linesOf_0 1 rfl rfl)
theorem dX6_linesOf_4 : decode cX6_linesOf 4 = .ok (.iconst 0, 1) := dk_3 (dk_at dksX6_linesOf_0 4 rfl rfl)
theorem dX6_linesOf_5 : decode cX6_linesOf 5 = .ok (.iaload, 1) := dk_46 (dk_at dksX6_linesOf_0 5 rfl rfl)
theorem dX6_linesOf_6 : decode cX6_linesOf 6 = .ok (.istore_n 2, 1) := dk_61 (dk_at dksX6_linesOf_0 6 rfl rfl)
theorem dX6_linesOf_7 : decode cX6_linesOf 7 = .ok (.iload_n 1, 1) := dk_27 (dk_at dksX6_linesOf_0 7 rfl rfl)
theorem dX6_linesOf_8 : decode cX6_linesOf 8 = .ok (.iload_n 2, 1) := dk_28 (dk_at dksX6_linesOf_0 8 rfl rfl)
theorem dX6_linesOf_9 : decode cX6_linesOf 9 = .ok (.idiv, 1) := dk_108 (dk_at dksX6_linesOf_0 9 rfl rfl)
theorem dX6_linesOf_10 : decode cX6_linesOf 10 = .ok (.istore_n 3, 1) := dk_62 (dk_at dksX6_linesOf_0 10 rfl rfl)
theorem dX6_linesOf_11 : decode cX6_linesOf 11 = .ok (.iload_n 1, 1) := dk_27 (dk_at dksX6_linesOf_0 11 rfl rfl)
theorem dX6_linesOf_12 : decode cX6_linesOf 12 = .ok (.iload_n 2, 1) := dk_28 (dk_at dksX6_linesOf_0 12 rfl rfl)
theorem dX6_linesOf_13 : decode cX6_linesOf 13 = .ok (.irem, 1) := dk_112 (dk_at dksX6_linesOf_0 13 rfl rfl)
theorem dX6_linesOf_14 : decode cX6_linesOf 14 = .ok (.istore 4, 2) := dk_54 4 (dk_at dksX6_linesOf_0 14 rfl rfl)
theorem dX6_linesOf_16 : decode cX6_linesOf 16 = .ok (.iconst 1, 1) := dk_4 (dk_at dksX6_linesOf_0 16 rfl rfl)
theorem dX6_linesOf_17 : decode cX6_linesOf 17 = .ok (.iload_n 3, 1) := dk_29 (dk_at dksX6_linesOf_0 17 rfl rfl)
theorem dX6_linesOf_18 : decode cX6_linesOf 18 = .ok (.ishl, 1) := dk_120 (dk_at dksX6_linesOf_0 18 rfl rfl)
theorem dX6_linesOf_19 : decode cX6_linesOf 19 = .ok (.iconst 1, 1) := dk_4 (dk_at dksX6_linesOf_0 19 rfl rfl)
theorem dX6_linesOf_20 : decode cX6_linesOf 20 = .ok (.iload_n 2, 1) := dk_28 (dk_at dksX6_linesOf_0 20 rfl rfl)
theorem dX6_linesOf_21 : decode cX6_linesOf 21 = .ok (.iload 4, 2) := dk_21 4 (dk_at dksX6_linesOf_0 21 rfl rfl)
theorem dX6_linesOf_23 : decode cX6_linesOf 23 = .ok (.iadd, 1) := dk_96 (dk_at dksX6_linesOf_0 23 rfl rfl)
theorem dX6_linesOf_24 : decode cX6_linesOf 24 = .ok (.ishl, 1) := dk_120 (dk_at dksX6_linesOf_1 0 rfl rfl)
theorem dX6_linesOf_25 : decode cX6_linesOf 25 = .ok (.ior, 1) := dk_128 (dk_at dksX6_linesOf_1 1 rfl rfl)
theorem dX6_linesOf_26 : decode cX6_linesOf 26 = .ok (.istore 5, 2) := dk_54 5 (dk_at dksX6_linesOf_1 2 rfl rfl)
theorem dX6_linesOf_28 : decode cX6_linesOf 28 = .ok (.iload 5, 2) := dk_21 5 (dk_at dksX6_linesOf_1 4 rfl rfl)
theorem dX6_linesOf_30 : decode cX6_linesOf 30 = .ok (.aload_n 0, 1) := dk_42 (dk_at dksX6_linesOf_1 6 rfl rfl)
theorem dX6_linesOf_31 : decode cX6_linesOf 31 = .ok (.getfield 7, 3) := dk_180 0 7 (dk_at dksX6_linesOf_1 7 rfl rfl)
theorem dX6_linesOf_34 : decode cX6_linesOf 34 = .ok (.iconst 2, 1) := dk_5 (dk_at dksX6_linesOf_1 10 rfl rfl)
theorem dX6_linesOf_35 : decode cX6_linesOf 35 = .ok (.iaload, 1) := dk_46 (dk_at dksX6_linesOf_1 11 rfl rfl)
theorem dX6_linesOf_36 : decode cX6_linesOf 36 = .ok (.iconst 1, 1) := dk_4 (dk_at dksX6_linesOf_1 12 rfl rfl)
theorem dX6_linesOf_37 : decode cX6_linesOf 37 = .ok (.if_icmp .ne 17, 3) := dk_160 0 17 (dk_at dksX6_linesOf_1 13 rfl rfl)
theorem dX6_linesOf_40 : decode cX6_linesOf 40 = .ok (.iload_n 3, 1) := dk_29 (dk_at dksX6_linesOf_1 16 rfl rfl)
theorem dX6_linesOf_41 : decode cX6_linesOf 41 = .ok (.iload 4, 2) := dk_21 4 (dk_at dksX6_linesOf_1 17 rfl rfl)
theorem dX6_linesOf_43 : decode cX6_linesOf 43 = .ok (.if_icmp .ne 11, 3) := dk_160 0 11 (dk_at dksX6_linesOf_1 19 rfl rfl)
theorem dX6_linesOf_46 : decode cX6_linesOf 46 = .ok (.iconst 1, 1) := dk_4 (dk_at dksX6_linesOf_1 22 rfl rfl)
theorem dX6_linesOf_47 : decode cX6_linesOf 47 = .ok (.iconst 2, 1) := dk_5 (dk_at dksX6_linesOf_1 23 rfl rfl)
theorem dX6_linesOf_48 : decode cX6_linesOf 48 = .ok (.iload_n 2, 1) := dk_28 (dk_at dksX6_linesOf_2 0 rfl rfl)
theorem dX6_linesOf_49 : decode cX6_linesOf 49 = .ok (.imul, 1) := dk_104 (dk_at dksX6_linesOf_2 1 rfl rfl)
theorem dX6_linesOf_50 : decode cX6_linesOf 50 = .ok (.ishl, 1) := dk_120 (dk_at dksX6_linesOf_2 2 rfl rfl)
theorem dX6_linesOf_51 : decode cX6_linesOf 51 = .ok (.goto 4, 3) := dk_167 0 4 (dk_at dksX6_linesOf_2 3 rfl rfl)
theorem dX6_linesOf_54 : decode cX6_linesOf 54 = .ok (.iconst 0, 1) := dk_3 (dk_at dksX6_linesOf_2 6 rfl rfl)
theorem dX6_linesOf_55 : decode cX6_linesOf 55 = .ok (.ior, 1) := dk_128 (dk_at dksX6_linesOf_2 7 rfl rfl)
theorem dX6_linesOf_56 : decode cX6_linesOf 56 = .ok (.istore 5, 2) := dk_54 5 (dk_at dksX6_linesOf_2 8 rfl rfl)
theorem dX6_linesOf_58 : decode cX6_linesOf 58 = .ok (.iload 5, 2) := dk_21 5 (dk_at dksX6_linesOf_2 10 rfl rfl)
theorem dX6_linesOf_60 : decode cX6_linesOf 60 = .ok (.aload_n 0, 1) := dk_42 (dk_at dksX6_linesOf_2 12 rfl rfl)
theorem dX6_linesOf_61 : decode cX6_linesOf 61 = .ok (.getfield 7, 3) := dk_180 0 7 (dk_at dksX6_linesOf_2 13 rfl rfl)
theorem dX6_linesOf_64 : decode cX6_linesOf 64 = .ok (.iconst 2, 1) := dk_5 (dk_at dksX6_linesOf_2 16 rfl rfl)
theorem dX6_linesOf_65 : decode cX6_linesOf 65 = .ok (.iaload, 1) := dk_46 (dk_at dksX6_linesOf_2 17 rfl rfl)
theorem dX6_linesOf_66 : decode cX6_linesOf 66 = .ok (.iconst 1, 1) := dk_4 (dk_at dksX6_linesOf_2 18 rfl rfl)
theorem dX6_linesOf_67 : decode cX6_linesOf 67 = .ok (.if_icmp .ne 21, 3) := dk_160 0 21 (dk_at dksX6_linesOf_2 19 rfl rfl)
theorem dX6_linesOf_70 : decode cX6_linesOf 70 = .ok (.iload_n 3, 1) := dk_29 (dk_at dksX6_linesOf_2 22 rfl rfl)
theorem dX6_linesOf_71 : decode cX6_linesOf 71 = .ok (.iload 4, 2) := dk_21 4 (dk_at dksX6_linesOf_3 0 rfl rfl)
theorem dX6_linesOf_73 : decode cX6_linesOf 73 = .ok (.iadd, 1) := dk_96 (dk_at dksX6_linesOf_3 2 rfl rfl)
theorem dX6_linesOf_74 : decode cX6_linesOf 74 = .ok (.iload_n 2, 1) := dk_28 (dk_at dksX6_linesOf_3 3 rfl rfl)
theorem dX6_linesOf_75 : decode cX6_linesOf 75 = .ok (.iconst 1, 1) := dk_4 (dk_at dksX6_linesOf_3 4 rfl rfl)
theorem dX6_linesOf_76 : decode cX6_linesOf 76 = .ok (.isub, 1) := dk_100 (dk_at dksX6_linesOf_3 5 rfl rfl)
theorem dX6_linesOf_77 : decode cX6_linesOf 77 = .ok (.if_icmp .ne 11, 3) := dk_160 0 11 (dk_at dksX6_linesOf_3 6 rfl rfl)
theorem dX6_linesOf_80 : decode cX6_linesOf 80 = .ok (.iconst 2, 1) := dk_5 (dk_at dksX6_linesOf_3 9 rfl rfl)
theorem dX6_linesOf_81 : decode cX6_linesOf 81 = .ok (.iconst 2, 1) := dk_5 (dk_at dksX6_linesOf_3 10 rfl rfl)
theorem dX6_linesOf_82 : decode cX6_linesOf 82 = .ok (.iload_n 2, 1) := dk_28 (dk_at dksX6_linesOf_3 11 rfl rfl)
theorem dX6_linesOf_83 : decode cX6_linesOf 83 = .ok (.imul, 1) := dk_104 (dk_at dksX6_linesOf_3 12 rfl rfl)
theorem dX6_linesOf_84 : decode cX6_linesOf 84 = .ok (.ishl, 1) := dk_120 (dk_at dksX6_linesOf_3 13 rfl rfl)
theorem dX6_linesOf_85 : decode cX6_linesOf 85 = .ok (.goto 4, 3) := dk_167 0 4 (dk_at dksX6_linesOf_3 14 rfl rfl)
theorem dX6_linesOf_88 : decode cX6_linesOf 88 = .ok (.iconst 0, 1) := dk_3 (dk_at dksX6_linesOf_3 17 rfl rfl)
theorem dX6_linesOf_89 : decode cX6_linesOf 89 = .ok (.ior, 1) := dk_128 (dk_at dksX6_linesOf_3 18 rfl rfl)
theorem dX6_linesOf_90 : decode cX6_linesOf 90 = .ok (.ireturn, 1) := dk_172 (dk_at dksX6_linesOf_3 19 rfl rfl)
abbrev cX6_others : ByteArray := prog_10_method_39_code
def yX6_others : MethodName := ⟨RX6, "others", "(IIIIZ)I"⟩
def dkwX6_others_3 : List UInt8 := [153, 0, 7, 4, 167, 0, 4, 3, 184, 0, 80, 96, 54, 6, 132, 7, 1, 167, 255, 176, 21, 6, 172]
abbrev dktX6_others_3 : List UInt8 := dkwX6_others_3 ++ []
def dkwX6_others_2 : List UInt8 := [153, 0, 15, 21, 9, 4, 21, 4, 120, 160, 0, 20, 167, 0, 13, 21, 9, 21, 4, 184, 0, 102]
abbrev dktX6_others_2 : List UInt8 := dkwX6_others_2 ++ dktX6_others_3
def dkwX6_others_1 : List UInt8 := [54, 8, 42, 180, 0, 27, 27, 21, 8, 96, 46, 54, 9, 21, 6, 21, 8, 29, 159, 0, 34, 21, 5]
abbrev dktX6_others_1 : List UInt8 := dkwX6_others_1 ++ dktX6_others_2
def dkwX6_others_0 : List UInt8 := [3, 54, 6, 3, 54, 7, 21, 7, 42, 180, 0, 7, 3, 46, 162, 0, 75, 42, 28, 21, 7, 182, 0, 99]
abbrev dktX6_others_0 : List UInt8 := dkwX6_others_0 ++ dktX6_others_1
theorem dksX6_others_0 : cX6_others.data.toList.drop 0 = dktX6_others_0 := by decide +kernel
theorem dksX6_others_1 : cX6_others.data.toList.drop 24 = dktX6_others_1 := dk_seg dksX6_others_0 24 rfl rfl
theorem dksX6_others_2 : cX6_others.data.toList.drop 47 = dktX6_others_2 := dk_seg dksX6_others_1 23 rfl rfl
theorem dksX6_others_3 : cX6_others.data.toList.drop 69 = dktX6_others_3 := dk_seg dksX6_others_2 22 rfl rfl
theorem dX6_others_0 : decode cX6_others 0 = .ok (.iconst 0, 1) := dk_3 (dk_at dksX6_others_0 0 rfl rfl)
theorem dX6_others_1 : decode cX6_others 1 = .ok (.istore 6, 2) := dk_54 6 (dk_at dksX6_others_0 1 rfl rfl)
theorem dX6_others_3 : decode cX6_others 3 = .ok (.iconst 0, 1) := dk_3 (dk_at dksX6_others_0 3 rfl rfl)
theorem dX6_others_4 : decode cX6_others 4 = .ok (.istore 7, 2) := dk_54 7 (dk_at dksX6_others_0 4 rfl rfl)
theorem dX6_others_6 : decode cX6_others 6 = .ok (.iload 7, 2) := dk_21 7 (dk_at dksX6_others_0 6 rfl rfl)
theorem dX6_others_8 : decode cX6_others 8 = .ok (.aload_n 0, 1) := dk_42 (dk_at dksX6_others_0 8 rfl rfl)
theorem dX6_others_9 : decode cX6_others 9 = .ok (.getfield 7, 3) := dk_180 0 7 (dk_at dksX6_others_0 9 rfl rfl)
theorem dX6_others_12 : decode cX6_others 12 = .ok (.iconst 0, 1) := dk_3 (dk_at dksX6_others_0 12 rfl rfl)
theorem dX6_others_13 : decode cX6_others 13 = .ok (.iaload, 1) := dk_46 (dk_at dksX6_others_0 13 rfl rfl)
theorem dX6_others_14 : decode cX6_others 14 = .ok (.if_icmp .ge 75, 3) := dk_162 0 75 (dk_at dksX6_others_0 14 rfl rfl)
theorem dX6_others_17 : decode cX6_others 17 = .ok (.aload_n 0, 1) := dk_42 (dk_at dksX6_others_0 17 rfl rfl)
theorem dX6_others_18 : decode cX6_others 18 = .ok (.iload_n 2, 1) := dk_28 (dk_at dksX6_others_0 18 rfl rfl)
theorem dX6_others_19 : decode cX6_others 19 = .ok (.iload 7, 2) := dk_21 7 (dk_at dksX6_others_0 19 rfl rfl)
theorem dX6_others_21 : decode cX6_others 21 = .ok (.invokevirtual 99, 3) := dk_182 0 99 (dk_at dksX6_others_0 21 rfl rfl)
theorem dX6_others_24 : decode cX6_others 24 = .ok (.istore 8, 2) := dk_54 8 (dk_at dksX6_others_1 0 rfl rfl)
theorem dX6_others_26 : decode cX6_others 26 = .ok (.aload_n 0, 1) := dk_42 (dk_at dksX6_others_1 2 rfl rfl)
theorem dX6_others_27 : decode cX6_others 27 = .ok (.getfield 27, 3) := dk_180 0 27 (dk_at dksX6_others_1 3 rfl rfl)
theorem dX6_others_30 : decode cX6_others 30 = .ok (.iload_n 1, 1) := dk_27 (dk_at dksX6_others_1 6 rfl rfl)
theorem dX6_others_31 : decode cX6_others 31 = .ok (.iload 8, 2) := dk_21 8 (dk_at dksX6_others_1 7 rfl rfl)
theorem dX6_others_33 : decode cX6_others 33 = .ok (.iadd, 1) := dk_96 (dk_at dksX6_others_1 9 rfl rfl)
theorem dX6_others_34 : decode cX6_others 34 = .ok (.iaload, 1) := dk_46 (dk_at dksX6_others_1 10 rfl rfl)
theorem dX6_others_35 : decode cX6_others 35 = .ok (.istore 9, 2) := dk_54 9 (dk_at dksX6_others_1 11 rfl rfl)
theorem dX6_others_37 : decode cX6_others 37 = .ok (.iload 6, 2) := dk_21 6 (dk_at dksX6_others_1 13 rfl rfl)
theorem dX6_others_39 : decode cX6_others 39 = .ok (.iload 8, 2) := dk_21 8 (dk_at dksX6_others_1 15 rfl rfl)
theorem dX6_others_41 : decode cX6_others 41 = .ok (.iload_n 3, 1) := dk_29 (dk_at dksX6_others_1 17 rfl rfl)
theorem dX6_others_42 : decode cX6_others 42 = .ok (.if_icmp .eq 34, 3) := dk_159 0 34 (dk_at dksX6_others_1 18 rfl rfl)
theorem dX6_others_45 : decode cX6_others 45 = .ok (.iload 5, 2) := dk_21 5 (dk_at dksX6_others_1 21 rfl rfl)
theorem dX6_others_47 : decode cX6_others 47 = .ok (.ifCond .eq 15, 3) := dk_153 0 15 (dk_at dksX6_others_2 0 rfl rfl)
theorem dX6_others_50 : decode cX6_others 50 = .ok (.iload 9, 2) := dk_21 9 (dk_at dksX6_others_2 3 rfl rfl)
theorem dX6_others_52 : decode cX6_others 52 = .ok (.iconst 1, 1) := dk_4 (dk_at dksX6_others_2 5 rfl rfl)
theorem dX6_others_53 : decode cX6_others 53 = .ok (.iload 4, 2) := dk_21 4 (dk_at dksX6_others_2 6 rfl rfl)
theorem dX6_others_55 : decode cX6_others 55 = .ok (.ishl, 1) := dk_120 (dk_at dksX6_others_2 8 rfl rfl)
theorem dX6_others_56 : decode cX6_others 56 = .ok (.if_icmp .ne 20, 3) := dk_160 0 20 (dk_at dksX6_others_2 9 rfl rfl)
theorem dX6_others_59 : decode cX6_others 59 = .ok (.goto 13, 3) := dk_167 0 13 (dk_at dksX6_others_2 12 rfl rfl)
theorem dX6_others_62 : decode cX6_others 62 = .ok (.iload 9, 2) := dk_21 9 (dk_at dksX6_others_2 15 rfl rfl)
theorem dX6_others_64 : decode cX6_others 64 = .ok (.iload 4, 2) := dk_21 4 (dk_at dksX6_others_2 17 rfl rfl)
theorem dX6_others_66 : decode cX6_others 66 = .ok (.invokestatic 102, 3) := dk_184 0 102 (dk_at dksX6_others_2 19 rfl rfl)
theorem dX6_others_69 : decode cX6_others 69 = .ok (.ifCond .eq 7, 3) := dk_153 0 7 (dk_at dksX6_others_3 0 rfl rfl)
theorem dX6_others_72 : decode cX6_others 72 = .ok (.iconst 1, 1) := dk_4 (dk_at dksX6_others_3 3 rfl rfl)
theorem dX6_others_73 : decode cX6_others 73 = .ok (.goto 4, 3) := dk_167 0 4 (dk_at dksX6_others_3 4 rfl rfl)
theorem dX6_others_76 : decode cX6_others 76 = .ok (.iconst 0, 1) := dk_3 (dk_at dksX6_others_3 7 rfl rfl)
theorem dX6_others_77 : decode cX6_others 77 = .ok (.invokestatic 80, 3) := dk_184 0 80 (dk_at dksX6_others_3 8 rfl rfl)
theorem dX6_others_80 : decode cX6_others 80 = .ok (.iadd, 1) := dk_96 (dk_at dksX6_others_3 11 rfl rfl)
theorem dX6_others_81 : decode cX6_others 81 = .ok (.istore 6, 2) := dk_54 6 (dk_at dksX6_others_3 12 rfl rfl)
theorem dX6_others_83 : decode cX6_others 83 = .ok (.iinc 7 1, 3) := dk_132 7 1 (dk_at dksX6_others_3 14 rfl rfl)
theorem dX6_others_86 : decode cX6_others 86 = .ok (.goto (-80), 3) := dk_167 255 176 (dk_at dksX6_others_3 17 rfl rfl)
theorem dX6_others_89 : decode cX6_others 89 = .ok (.iload 6, 2) := dk_21 6 (dk_at dksX6_others_3 20 rfl rfl)
theorem dX6_others_91 : decode cX6_others 91 = .ok (.ireturn, 1) := dk_172 (dk_at dksX6_others_3 22 rfl rfl)
abbrev cX6_isAlone : ByteArray := prog_10_method_42_code
def yX6_isAlone : MethodName := ⟨RX6, "isAlone", "(IIII)Z"⟩
def dkwX6_isAlone_2 : List UInt8 := [54, 5, 132, 6, 1, 167, 255, 210, 21, 5, 172]
abbrev dktX6_isAlone_2 : List UInt8 := dkwX6_isAlone_2 ++ []
def dkwX6_isAlone_1 : List UInt8 := [21, 4, 159, 0, 20, 42, 27, 28, 29, 21, 6, 3, 182, 0, 147, 154, 0, 7, 4, 167, 0, 4, 3]
abbrev dktX6_isAlone_1 : List UInt8 := dkwX6_isAlone_1 ++ dktX6_isAlone_2
def dkwX6_isAlone_0 : List UInt8 := [3, 54, 5, 3, 54, 6, 21, 6, 42, 180, 0, 7, 4, 46, 162, 0, 41, 21, 5, 154, 0, 23, 21, 6]
abbrev dktX6_isAlone_0 : List UInt8 := dkwX6_isAlone_0 ++ dktX6_isAlone_1
theorem dksX6_isAlone_0 : cX6_isAlone.data.toList.drop 0 = dktX6_isAlone_0 := by decide +kernel
theorem dksX6_isAlone_1 : cX6_isAlone.data.toList.drop 24 = dktX6_isAlone_1 := dk_seg dksX6_isAlone_0 24 rfl rfl
theorem dksX6_isAlone_2 : cX6_isAlone.data.toList.drop 47 = dktX6_isAlone_2 := dk_seg dksX6_isAlone_1 23 rfl rfl
theorem dX6_isAlone_0 : decode cX6_isAlone 0 = .ok (.iconst 0, 1) := dk_3 (dk_at dksX6_isAlone_0 0 rfl rfl)
theorem dX6_isAlone_1 : decode cX6_isAlone 1 = .ok (.istore 5, 2) := dk_54 5 (dk_at dksX6_isAlone_0 1 rfl rfl)
theorem dX6_isAlone_3 : decode cX6_isAlone 3 = .ok (.iconst 0, 1) := dk_3 (dk_at dksX6_isAlone_0 3 rfl rfl)
theorem dX6_isAlone_4 : decode cX6_isAlone 4 = .ok (.istore 6, 2) := dk_54 6 (dk_at dksX6_isAlone_0 4 rfl rfl)
theorem dX6_isAlone_6 : decode cX6_isAlone 6 = .ok (.iload 6, 2) := dk_21 6 (dk_at dksX6_isAlone_0 6 rfl rfl)
theorem dX6_isAlone_8 : decode cX6_isAlone 8 = .ok (.aload_n 0, 1) := dk_42 (dk_at dksX6_isAlone_0 8 rfl rfl)
theorem dX6_isAlone_9 : decode cX6_isAlone 9 = .ok (.getfield 7, 3) := dk_180 0 7 (dk_at dksX6_isAlone_0 9 rfl rfl)
theorem dX6_isAlone_12 : decode cX6_isAlone 12 = .ok (.iconst 1, 1) := dk_4 (dk_at dksX6_isAlone_0 12 rfl rfl)
theorem dX6_isAlone_13 : decode cX6_isAlone 13 = .ok (.iaload, 1) := dk_46 (dk_at dksX6_isAlone_0 13 rfl rfl)
theorem dX6_isAlone_14 : decode cX6_isAlone 14 = .ok (.if_icmp .ge 41, 3) := dk_162 0 41 (dk_at dksX6_isAlone_0 14 rfl rfl)
theorem dX6_isAlone_17 : decode cX6_isAlone 17 = .ok (.iload 5, 2) := dk_21 5 (dk_at dksX6_isAlone_0 17 rfl rfl)
theorem dX6_isAlone_19 : decode cX6_isAlone 19 = .ok (.ifCond .ne 23, 3) := dk_154 0 23 (dk_at dksX6_isAlone_0 19 rfl rfl)
theorem dX6_isAlone_22 : decode cX6_isAlone 22 = .ok (.iload 6, 2) := dk_21 6 (dk_at dksX6_isAlone_0 22 rfl rfl)
theorem dX6_isAlone_24 : decode cX6_isAlone 24 = .ok (.iload 4, 2) := dk_21 4 (dk_at dksX6_isAlone_1 0 rfl rfl)
theorem dX6_isAlone_26 : decode cX6_isAlone 26 = .ok (.if_icmp .eq 20, 3) := dk_159 0 20 (dk_at dksX6_isAlone_1 2 rfl rfl)
theorem dX6_isAlone_29 : decode cX6_isAlone 29 = .ok (.aload_n 0, 1) := dk_42 (dk_at dksX6_isAlone_1 5 rfl rfl)
theorem dX6_isAlone_30 : decode cX6_isAlone 30 = .ok (.iload_n 1, 1) := dk_27 (dk_at dksX6_isAlone_1 6 rfl rfl)
theorem dX6_isAlone_31 : decode cX6_isAlone 31 = .ok (.iload_n 2, 1) := dk_28 (dk_at dksX6_isAlone_1 7 rfl rfl)
theorem dX6_isAlone_32 : decode cX6_isAlone 32 = .ok (.iload_n 3, 1) := dk_29 (dk_at dksX6_isAlone_1 8 rfl rfl)
theorem dX6_isAlone_33 : decode cX6_isAlone 33 = .ok (.iload 6, 2) := dk_21 6 (dk_at dksX6_isAlone_1 9 rfl rfl)
theorem dX6_isAlone_35 : decode cX6_isAlone 35 = .ok (.iconst 0, 1) := dk_3 (dk_at dksX6_isAlone_1 11 rfl rfl)
theorem dX6_isAlone_36 : decode cX6_isAlone 36 = .ok (.invokevirtual 147, 3) := dk_182 0 147 (dk_at dksX6_isAlone_1 12 rfl rfl)
theorem dX6_isAlone_39 : decode cX6_isAlone 39 = .ok (.ifCond .ne 7, 3) := dk_154 0 7 (dk_at dksX6_isAlone_1 15 rfl rfl)
theorem dX6_isAlone_42 : decode cX6_isAlone 42 = .ok (.iconst 1, 1) := dk_4 (dk_at dksX6_isAlone_1 18 rfl rfl)
theorem dX6_isAlone_43 : decode cX6_isAlone 43 = .ok (.goto 4, 3) := dk_167 0 4 (dk_at dksX6_isAlone_1 19 rfl rfl)
theorem dX6_isAlone_46 : decode cX6_isAlone 46 = .ok (.iconst 0, 1) := dk_3 (dk_at dksX6_isAlone_1 22 rfl rfl)
theorem dX6_isAlone_47 : decode cX6_isAlone 47 = .ok (.istore 5, 2) := dk_54 5 (dk_at dksX6_isAlone_2 0 rfl rfl)
theorem dX6_isAlone_49 : decode cX6_isAlone 49 = .ok (.iinc 6 1, 3) := dk_132 6 1 (dk_at dksX6_isAlone_2 2 rfl rfl)
theorem dX6_isAlone_52 : decode cX6_isAlone 52 = .ok (.goto (-46), 3) := dk_167 255 210 (dk_at dksX6_isAlone_2 5 rfl rfl)
theorem dX6_isAlone_55 : decode cX6_isAlone 55 = .ok (.iload 5, 2) := dk_21 5 (dk_at dksX6_isAlone_2 8 rfl rfl)
theorem dX6_isAlone_57 : decode cX6_isAlone 57 = .ok (.ireturn, 1) := dk_172 (dk_at dksX6_isAlone_2 10 rfl rfl)
abbrev cX6_isFull : ByteArray := prog_10_method_43_code
def yX6_isFull : MethodName := ⟨RX6, "isFull", "(IIII)Z"⟩
def dkwX6_isFull_3 : List UInt8 := [182, 0, 147, 4, 96, 21, 6, 160, 0, 7, 4, 167, 0, 4, 3, 172]
abbrev dktX6_isFull_3 : List UInt8 := dkwX6_isFull_3 ++ []
def dkwX6_isFull_2 : List UInt8 := [42, 180, 0, 27, 27, 29, 96, 46, 21, 5, 184, 0, 102, 153, 0, 24, 42, 27, 28, 29, 21, 5, 3]
abbrev dktX6_isFull_2 : List UInt8 := dkwX6_isFull_2 ++ dktX6_isFull_3
def dkwX6_isFull_1 : List UInt8 := [160, 0, 24, 42, 27, 28, 29, 21, 5, 4, 182, 0, 147, 21, 6, 161, 0, 7, 4, 167, 0, 4, 3, 172]
abbrev dktX6_isFull_1 : List UInt8 := dkwX6_isFull_1 ++ dktX6_isFull_2
def dkwX6_isFull_0 : List UInt8 := [42, 180, 0, 7, 4, 46, 54, 5, 42, 180, 0, 7, 3, 46, 21, 5, 100, 54, 6, 21, 4, 21, 5]
abbrev dktX6_isFull_0 : List UInt8 := dkwX6_isFull_0 ++ dktX6_isFull_1
theorem dksX6_isFull_0 : cX6_isFull.data.toList.drop 0 = dktX6_isFull_0 := by decide +kernel
theorem dksX6_isFull_1 : cX6_isFull.data.toList.drop 23 = dktX6_isFull_1 := dk_seg dksX6_isFull_0 23 rfl rfl
theorem dksX6_isFull_2 : cX6_isFull.data.toList.drop 47 = dktX6_isFull_2 := dk_seg dksX6_isFull_1 24 rfl rfl
theorem dksX6_isFull_3 : cX6_isFull.data.toList.drop 70 = dktX6_isFull_3 := dk_seg dksX6_isFull_2 23 rfl rfl
theorem dX6_isFull_0 : decode cX6_isFull 0 = .ok (.aload_n 0, 1) := dk_42 (dk_at dksX6_isFull_0 0 rfl rfl)
theorem dX6_isFull_1 : decode cX6_isFull 1 = .ok (.getfield 7, 3) := dk_180 0 7 (dk_at dksX6_isFull_0 1 rfl rfl)
theorem dX6_isFull_4 : decode cX6_isFull 4 = .ok (.iconst 1, 1) := dk_4 (dk_at dksX6_isFull_0 4 rfl rfl)
theorem dX6_isFull_5 : decode cX6_isFull 5 = .ok (.iaload, 1) := dk_46 (dk_at dksX6_isFull_0 5 rfl rfl)
theorem dX6_isFull_6 : decode cX6_isFull 6 = .ok (.istore 5, 2) := dk_54 5 (dk_at dksX6_isFull_0 6 rfl rfl)
theorem dX6_isFull_8 : decode cX6_isFull 8 = .ok (.aload_n 0, 1) := dk_42 (dk_at dksX6_isFull_0 8 rfl rfl)
theorem dX6_isFull_9 : decode cX6_isFull 9 = .ok (.getfield 7, 3) := dk_180 0 7 (dk_at dksX6_isFull_0 9 rfl rfl)
theorem dX6_isFull_12 : decode cX6_isFull 12 = .ok (.iconst 0, 1) := dk_3 (dk_at dksX6_isFull_0 12 rfl rfl)
theorem dX6_isFull_13 : decode cX6_isFull 13 = .ok (.iaload, 1) := dk_46 (dk_at dksX6_isFull_0 13 rfl rfl)
theorem dX6_isFull_14 : decode cX6_isFull 14 = .ok (.iload 5, 2) := dk_21 5 (dk_at dksX6_isFull_0 14 rfl rfl)
theorem dX6_isFull_16 : decode cX6_isFull 16 = .ok (.isub, 1) := dk_100 (dk_at dksX6_isFull_0 16 rfl rfl)
theorem dX6_isFull_17 : decode cX6_isFull 17 = .ok (.istore 6, 2) := dk_54 6 (dk_at dksX6_isFull_0 17 rfl rfl)
theorem dX6_isFull_19 : decode cX6_isFull 19 = .ok (.iload 4, 2) := dk_21 4 (dk_at dksX6_isFull_0 19 rfl rfl)
theorem dX6_isFull_21 : decode cX6_isFull 21 = .ok (.iload 5, 2) := dk_21 5 (dk_at dksX6_isFull_0 21 rfl rfl)
theorem dX6_isFull_23 : decode cX6_isFull 23 = .ok (.if_icmp .ne 24, 3) := dk_160 0 24 (dk_at dksX6_isFull_1 0 rfl rfl)
theorem dX6_isFull_26 : decode cX6_isFull 26 = .ok (.aload_n 0, 1) := dk_42 (dk_at dksX6_isFull_1 3 rfl rfl)
theorem dX6_isFull_27 : decode cX6_isFull 27 = .ok (.iload_n 1, 1) := dk_27 (dk_at dksX6_isFull_1 4 rfl rfl)
theorem dX6_isFull_28 : decode cX6_isFull 28 = .ok (.iload_n 2, 1) := dk_28 (dk_at dksX6_isFull_1 5 rfl rfl)
theorem dX6_isFull_29 : decode cX6_isFull 29 = .ok (.iload_n 3, 1) := dk_29 (dk_at dksX6_isFull_1 6 rfl rfl)
theorem dX6_isFull_30 : decode cX6_isFull 30 = .ok (.iload 5, 2) := dk_21 5 (dk_at dksX6_isFull_1 7 rfl rfl)
theorem dX6_isFull_32 : decode cX6_isFull 32 = .ok (.iconst 1, 1) := dk_4 (dk_at dksX6_isFull_1 9 rfl rfl)
theorem dX6_isFull_33 : decode cX6_isFull 33 = .ok (.invokevirtual 147, 3) := dk_182 0 147 (dk_at dksX6_isFull_1 10 rfl rfl)
theorem dX6_isFull_36 : decode cX6_isFull 36 = .ok (.iload 6, 2) := dk_21 6 (dk_at dksX6_isFull_1 13 rfl rfl)
theorem dX6_isFull_38 : decode cX6_isFull 38 = .ok (.if_icmp .lt 7, 3) := dk_161 0 7 (dk_at dksX6_isFull_1 15 rfl rfl)
theorem dX6_isFull_41 : decode cX6_isFull 41 = .ok (.iconst 1, 1) := dk_4 (dk_at dksX6_isFull_1 18 rfl rfl)
theorem dX6_isFull_42 : decode cX6_isFull 42 = .ok (.goto 4, 3) := dk_167 0 4 (dk_at dksX6_isFull_1 19 rfl rfl)
theorem dX6_isFull_45 : decode cX6_isFull 45 = .ok (.iconst 0, 1) := dk_3 (dk_at dksX6_isFull_1 22 rfl rfl)
theorem dX6_isFull_46 : decode cX6_isFull 46 = .ok (.ireturn, 1) := dk_172 (dk_at dksX6_isFull_1 23 rfl rfl)
theorem dX6_isFull_47 : decode cX6_isFull 47 = .ok (.aload_n 0, 1) := dk_42 (dk_at dksX6_isFull_2 0 rfl rfl)
theorem dX6_isFull_48 : decode cX6_isFull 48 = .ok (.getfield 27, 3) := dk_180 0 27 (dk_at dksX6_isFull_2 1 rfl rfl)
theorem dX6_isFull_51 : decode cX6_isFull 51 = .ok (.iload_n 1, 1) := dk_27 (dk_at dksX6_isFull_2 4 rfl rfl)
theorem dX6_isFull_52 : decode cX6_isFull 52 = .ok (.iload_n 3, 1) := dk_29 (dk_at dksX6_isFull_2 5 rfl rfl)
theorem dX6_isFull_53 : decode cX6_isFull 53 = .ok (.iadd, 1) := dk_96 (dk_at dksX6_isFull_2 6 rfl rfl)
theorem dX6_isFull_54 : decode cX6_isFull 54 = .ok (.iaload, 1) := dk_46 (dk_at dksX6_isFull_2 7 rfl rfl)
theorem dX6_isFull_55 : decode cX6_isFull 55 = .ok (.iload 5, 2) := dk_21 5 (dk_at dksX6_isFull_2 8 rfl rfl)
theorem dX6_isFull_57 : decode cX6_isFull 57 = .ok (.invokestatic 102, 3) := dk_184 0 102 (dk_at dksX6_isFull_2 10 rfl rfl)
theorem dX6_isFull_60 : decode cX6_isFull 60 = .ok (.ifCond .eq 24, 3) := dk_153 0 24 (dk_at dksX6_isFull_2 13 rfl rfl)
theorem dX6_isFull_63 : decode cX6_isFull 63 = .ok (.aload_n 0, 1) := dk_42 (dk_at dksX6_isFull_2 16 rfl rfl)
theorem dX6_isFull_64 : decode cX6_isFull 64 = .ok (.iload_n 1, 1) := dk_27 (dk_at dksX6_isFull_2 17 rfl rfl)
theorem dX6_isFull_65 : decode cX6_isFull 65 = .ok (.iload_n 2, 1) := dk_28 (dk_at dksX6_isFull_2 18 rfl rfl)
theorem dX6_isFull_66 : decode cX6_isFull 66 = .ok (.iload_n 3, 1) := dk_29 (dk_at dksX6_isFull_2 19 rfl rfl)
theorem dX6_isFull_67 : decode cX6_isFull 67 = .ok (.iload 5, 2) := dk_21 5 (dk_at dksX6_isFull_2 20 rfl rfl)
theorem dX6_isFull_69 : decode cX6_isFull 69 = .ok (.iconst 0, 1) := dk_3 (dk_at dksX6_isFull_2 22 rfl rfl)
theorem dX6_isFull_70 : decode cX6_isFull 70 = .ok (.invokevirtual 147, 3) := dk_182 0 147 (dk_at dksX6_isFull_3 0 rfl rfl)
theorem dX6_isFull_73 : decode cX6_isFull 73 = .ok (.iconst 1, 1) := dk_4 (dk_at dksX6_isFull_3 3 rfl rfl)
theorem dX6_isFull_74 : decode cX6_isFull 74 = .ok (.iadd, 1) := dk_96 (dk_at dksX6_isFull_3 4 rfl rfl)
theorem dX6_isFull_75 : decode cX6_isFull 75 = .ok (.iload 6, 2) := dk_21 6 (dk_at dksX6_isFull_3 5 rfl rfl)
theorem dX6_isFull_77 : decode cX6_isFull 77 = .ok (.if_icmp .ne 7, 3) := dk_160 0 7 (dk_at dksX6_isFull_3 7 rfl rfl)
theorem dX6_isFull_80 : decode cX6_isFull 80 = .ok (.iconst 1, 1) := dk_4 (dk_at dksX6_isFull_3 10 rfl rfl)
theorem dX6_isFull_81 : decode cX6_isFull 81 = .ok (.goto 4, 3) := dk_167 0 4 (dk_at dksX6_isFull_3 11 rfl rfl)
theorem dX6_isFull_84 : decode cX6_isFull 84 = .ok (.iconst 0, 1) := dk_3 (dk_at dksX6_isFull_3 14 rfl rfl)
theorem dX6_isFull_85 : decode cX6_isFull 85 = .ok (.ireturn, 1) := dk_172 (dk_at dksX6_isFull_3 15 rfl rfl)
abbrev cX6_isPaired : ByteArray := prog_10_method_41_code
def yX6_isPaired : MethodName := ⟨RX6, "isPaired", "(IIII)Z"⟩
def dkwX6_isPaired_5 : List UInt8 := [167, 255, 147, 21, 5, 172]
abbrev dktX6_isPaired_5 : List UInt8 := dkwX6_isPaired_5 ++ []
def dkwX6_isPaired_4 : List UInt8 := [184, 0, 102, 153, 0, 7, 4, 167, 0, 4, 3, 54, 5, 132, 7, 1, 167, 255, 170, 132, 6, 1]
abbrev dktX6_isPaired_4 : List UInt8 := dkwX6_isPaired_4 ++ dktX6_isPaired_5
def dkwX6_isPaired_3 : List UInt8 := [182, 0, 140, 160, 0, 30, 21, 8, 184, 0, 133, 5, 160, 0, 21, 21, 8, 42, 28, 29, 182, 0, 144]
abbrev dktX6_isPaired_3 : List UInt8 := dkwX6_isPaired_3 ++ dktX6_isPaired_4
def dkwX6_isPaired_2 : List UInt8 := [154, 0, 53, 21, 4, 21, 6, 159, 0, 50, 21, 4, 21, 7, 159, 0, 43, 21, 8, 42, 27, 28, 21, 7]
abbrev dktX6_isPaired_2 : List UInt8 := dkwX6_isPaired_2 ++ dktX6_isPaired_3
def dkwX6_isPaired_1 : List UInt8 := [21, 7, 42, 180, 0, 7, 4, 46, 162, 0, 81, 42, 27, 28, 21, 6, 182, 0, 140, 54, 8, 21, 5]
abbrev dktX6_isPaired_1 : List UInt8 := dkwX6_isPaired_1 ++ dktX6_isPaired_2
def dkwX6_isPaired_0 : List UInt8 := [3, 54, 5, 3, 54, 6, 21, 6, 42, 180, 0, 7, 4, 46, 162, 0, 104, 21, 6, 4, 96, 54, 7]
abbrev dktX6_isPaired_0 : List UInt8 := dkwX6_isPaired_0 ++ dktX6_isPaired_1
theorem dksX6_isPaired_0 : cX6_isPaired.data.toList.drop 0 = dktX6_isPaired_0 := by decide +kernel
theorem dksX6_isPaired_1 : cX6_isPaired.data.toList.drop 23 = dktX6_isPaired_1 := dk_seg dksX6_isPaired_0 23 rfl rfl
theorem dksX6_isPaired_2 : cX6_isPaired.data.toList.drop 46 = dktX6_isPaired_2 := dk_seg dksX6_isPaired_1 23 rfl rfl
theorem dksX6_isPaired_3 : cX6_isPaired.data.toList.drop 70 = dktX6_isPaired_3 := dk_seg dksX6_isPaired_2 24 rfl rfl
theorem dksX6_isPaired_4 : cX6_isPaired.data.toList.drop 93 = dktX6_isPaired_4 := dk_seg dksX6_isPaired_3 23 rfl rfl
theorem dksX6_isPaired_5 : cX6_isPaired.data.toList.drop 115 = dktX6_isPaired_5 := dk_seg dksX6_isPaired_4 22 rfl rfl
theorem dX6_isPaired_0 : decode cX6_isPaired 0 = .ok (.iconst 0, 1) := dk_3 (dk_at dksX6_isPaired_0 0 rfl rfl)
theorem dX6_isPaired_1 : decode cX6_isPaired 1 = .ok (.istore 5, 2) := dk_54 5 (dk_at dksX6_isPaired_0 1 rfl rfl)
theorem dX6_isPaired_3 : decode cX6_isPaired 3 = .ok (.iconst 0, 1) := dk_3 (dk_at dksX6_isPaired_0 3 rfl rfl)
theorem dX6_isPaired_4 : decode cX6_isPaired 4 = .ok (.istore 6, 2) := dk_54 6 (dk_at dksX6_isPaired_0 4 rfl rfl)
theorem dX6_isPaired_6 : decode cX6_isPaired 6 = .ok (.iload 6, 2) := dk_21 6 (dk_at dksX6_isPaired_0 6 rfl rfl)
theorem dX6_isPaired_8 : decode cX6_isPaired 8 = .ok (.aload_n 0, 1) := dk_42 (dk_at dksX6_isPaired_0 8 rfl rfl)
theorem dX6_isPaired_9 : decode cX6_isPaired 9 = .ok (.getfield 7, 3) := dk_180 0 7 (dk_at dksX6_isPaired_0 9 rfl rfl)
theorem dX6_isPaired_12 : decode cX6_isPaired 12 = .ok (.iconst 1, 1) := dk_4 (dk_at dksX6_isPaired_0 12 rfl rfl)
theorem dX6_isPaired_13 : decode cX6_isPaired 13 = .ok (.iaload, 1) := dk_46 (dk_at dksX6_isPaired_0 13 rfl rfl)
theorem dX6_isPaired_14 : decode cX6_isPaired 14 = .ok (.if_icmp .ge 104, 3) := dk_162 0 104 (dk_at dksX6_isPaired_0 14 rfl rfl)
theorem dX6_isPaired_17 : decode cX6_isPaired 17 = .ok (.iload 6, 2) := dk_21 6 (dk_at dksX6_isPaired_0 17 rfl rfl)
theorem dX6_isPaired_19 : decode cX6_isPaired 19 = .ok (.iconst 1, 1) := dk_4 (dk_at dksX6_isPaired_0 19 rfl rfl)
theorem dX6_isPaired_20 : decode cX6_isPaired 20 = .ok (.iadd, 1) := dk_96 (dk_at dksX6_isPaired_0 20 rfl rfl)
theorem dX6_isPaired_21 : decode cX6_isPaired 21 = .ok (.istore 7, 2) := dk_54 7 (dk_at dksX6_isPaired_0 21 rfl rfl)
theorem dX6_isPaired_23 : decode cX6_isPaired 23 = .ok (.iload 7, 2) := dk_21 7 (dk_at dksX6_isPaired_1 0 rfl rfl)
theorem dX6_isPaired_25 : decode cX6_isPaired 25 = .ok (.aload_n 0, 1) := dk_42 (dk_at dksX6_isPaired_1 2 rfl rfl)
theorem dX6_isPaired_26 : decode cX6_isPaired 26 = .ok (.getfield 7, 3) := dk_180 0 7 (dk_at dksX6_isPaired_1 3 rfl rfl)
theorem dX6_isPaired_29 : decode cX6_isPaired 29 = .ok (.iconst 1, 1) := dk_4 (dk_at dksX6_isPaired_1 6 rfl rfl)
theorem dX6_isPaired_30 : decode cX6_isPaired 30 = .ok (.iaload, 1) := dk_46 (dk_at dksX6_isPaired_1 7 rfl rfl)
theorem dX6_isPaired_31 : decode cX6_isPaired 31 = .ok (.if_icmp .ge 81, 3) := dk_162 0 81 (dk_at dksX6_isPaired_1 8 rfl rfl)
theorem dX6_isPaired_34 : decode cX6_isPaired 34 = .ok (.aload_n 0, 1) := dk_42 (dk_at dksX6_isPaired_1 11 rfl rfl)
theorem dX6_isPaired_35 : decode cX6_isPaired 35 = .ok (.iload_n 1, 1) := dk_27 (dk_at dksX6_isPaired_1 12 rfl rfl)
theorem dX6_isPaired_36 : decode cX6_isPaired 36 = .ok (.iload_n 2, 1) := dk_28 (dk_at dksX6_isPaired_1 13 rfl rfl)
theorem dX6_isPaired_37 : decode cX6_isPaired 37 = .ok (.iload 6, 2) := dk_21 6 (dk_at dksX6_isPaired_1 14 rfl rfl)
theorem dX6_isPaired_39 : decode cX6_isPaired 39 = .ok (.invokevirtual 140, 3) := dk_182 0 140 (dk_at dksX6_isPaired_1 16 rfl rfl)
theorem dX6_isPaired_42 : decode cX6_isPaired 42 = .ok (.istore 8, 2) := dk_54 8 (dk_at dksX6_isPaired_1 19 rfl rfl)
theorem dX6_isPaired_44 : decode cX6_isPaired 44 = .ok (.iload 5, 2) := dk_21 5 (dk_at dksX6_isPaired_1 21 rfl rfl)
theorem dX6_isPaired_46 : decode cX6_isPaired 46 = .ok (.ifCond .ne 53, 3) := dk_154 0 53 (dk_at dksX6_isPaired_2 0 rfl rfl)
theorem dX6_isPaired_49 : decode cX6_isPaired 49 = .ok (.iload 4, 2) := dk_21 4 (dk_at dksX6_isPaired_2 3 rfl rfl)
theorem dX6_isPaired_51 : decode cX6_isPaired 51 = .ok (.iload 6, 2) := dk_21 6 (dk_at dksX6_isPaired_2 5 rfl rfl)
theorem dX6_isPaired_53 : decode cX6_isPaired 53 = .ok (.if_icmp .eq 50, 3) := dk_159 0 50 (dk_at dksX6_isPaired_2 7 rfl rfl)
theorem dX6_isPaired_56 : decode cX6_isPaired 56 = .ok (.iload 4, 2) := dk_21 4 (dk_at dksX6_isPaired_2 10 rfl rfl)
theorem dX6_isPaired_58 : decode cX6_isPaired 58 = .ok (.iload 7, 2) := dk_21 7 (dk_at dksX6_isPaired_2 12 rfl rfl)
theorem dX6_isPaired_60 : decode cX6_isPaired 60 = .ok (.if_icmp .eq 43, 3) := dk_159 0 43 (dk_at dksX6_isPaired_2 14 rfl rfl)
theorem dX6_isPaired_63 : decode cX6_isPaired 63 = .ok (.iload 8, 2) := dk_21 8 (dk_at dksX6_isPaired_2 17 rfl rfl)
theorem dX6_isPaired_65 : decode cX6_isPaired 65 = .ok (.aload_n 0, 1) := dk_42 (dk_at dksX6_isPaired_2 19 rfl rfl)
theorem dX6_isPaired_66 : decode cX6_isPaired 66 = .ok (.iload_n 1, 1) := dk_27 (dk_at dksX6_isPaired_2 20 rfl rfl)
theorem dX6_isPaired_67 : decode cX6_isPaired 67 = .ok (.iload_n 2, 1) := dk_28 (dk_at dksX6_isPaired_2 21 rfl rfl)
theorem dX6_isPaired_68 : decode cX6_isPaired 68 = .ok (.iload 7, 2) := dk_21 7 (dk_at dksX6_isPaired_2 22 rfl rfl)
theorem dX6_isPaired_70 : decode cX6_isPaired 70 = .ok (.invokevirtual 140, 3) := dk_182 0 140 (dk_at dksX6_isPaired_3 0 rfl rfl)
theorem dX6_isPaired_73 : decode cX6_isPaired 73 = .ok (.if_icmp .ne 30, 3) := dk_160 0 30 (dk_at dksX6_isPaired_3 3 rfl rfl)
theorem dX6_isPaired_76 : decode cX6_isPaired 76 = .ok (.iload 8, 2) := dk_21 8 (dk_at dksX6_isPaired_3 6 rfl rfl)
theorem dX6_isPaired_78 : decode cX6_isPaired 78 = .ok (.invokestatic 133, 3) := dk_184 0 133 (dk_at dksX6_isPaired_3 8 rfl rfl)
theorem dX6_isPaired_81 : decode cX6_isPaired 81 = .ok (.iconst 2, 1) := dk_5 (dk_at dksX6_isPaired_3 11 rfl rfl)
theorem dX6_isPaired_82 : decode cX6_isPaired 82 = .ok (.if_icmp .ne 21, 3) := dk_160 0 21 (dk_at dksX6_isPaired_3 12 rfl rfl)
theorem dX6_isPaired_85 : decode cX6_isPaired 85 = .ok (.iload 8, 2) := dk_21 8 (dk_at dksX6_isPaired_3 15 rfl rfl)
theorem dX6_isPaired_87 : decode cX6_isPaired 87 = .ok (.aload_n 0, 1) := dk_42 (dk_at dksX6_isPaired_3 17 rfl rfl)
theorem dX6_isPaired_88 : decode cX6_isPaired 88 = .ok (.iload_n 2, 1) := dk_28 (dk_at dksX6_isPaired_3 18 rfl rfl)
theorem dX6_isPaired_89 : decode cX6_isPaired 89 = .ok (.iload_n 3, 1) := dk_29 (dk_at dksX6_isPaired_3 19 rfl rfl)
theorem dX6_isPaired_90 : decode cX6_isPaired 90 = .ok (.invokevirtual 144, 3) := dk_182 0 144 (dk_at dksX6_isPaired_3 20 rfl rfl)
theorem dX6_isPaired_93 : decode cX6_isPaired 93 = .ok (.invokestatic 102, 3) := dk_184 0 102 (dk_at dksX6_isPaired_4 0 rfl rfl)
theorem dX6_isPaired_96 : decode cX6_isPaired 96 = .ok (.ifCond .eq 7, 3) := dk_153 0 7 (dk_at dksX6_isPaired_4 3 rfl rfl)
theorem dX6_isPaired_99 : decode cX6_isPaired 99 = .ok (.iconst 1, 1) := dk_4 (dk_at dksX6_isPaired_4 6 rfl rfl)
theorem dX6_isPaired_100 : decode cX6_isPaired 100 = .ok (.goto 4, 3) := dk_167 0 4 (dk_at dksX6_isPaired_4 7 rfl rfl)
theorem dX6_isPaired_103 : decode cX6_isPaired 103 = .ok (.iconst 0, 1) := dk_3 (dk_at dksX6_isPaired_4 10 rfl rfl)
theorem dX6_isPaired_104 : decode cX6_isPaired 104 = .ok (.istore 5, 2) := dk_54 5 (dk_at dksX6_isPaired_4 11 rfl rfl)
theorem dX6_isPaired_106 : decode cX6_isPaired 106 = .ok (.iinc 7 1, 3) := dk_132 7 1 (dk_at dksX6_isPaired_4 13 rfl rfl)
theorem dX6_isPaired_109 : decode cX6_isPaired 109 = .ok (.goto (-86), 3) := dk_167 255 170 (dk_at dksX6_isPaired_4 16 rfl rfl)
theorem dX6_isPaired_112 : decode cX6_isPaired 112 = .ok (.iinc 6 1, 3) := dk_132 6 1 (dk_at dksX6_isPaired_4 19 rfl rfl)
theorem dX6_isPaired_115 : decode cX6_isPaired 115 = .ok (.goto (-109), 3) := dk_167 255 147 (dk_at dksX6_isPaired_5 0 rfl rfl)
theorem dX6_isPaired_118 : decode cX6_isPaired 118 = .ok (.iload 5, 2) := dk_21 5 (dk_at dksX6_isPaired_5 3 rfl rfl)
theorem dX6_isPaired_120 : decode cX6_isPaired 120 = .ok (.ireturn, 1) := dk_172 (dk_at dksX6_isPaired_5 5 rfl rfl)
abbrev cX6_placesWith : ByteArray := prog_10_method_40_code
def yX6_placesWith : MethodName := ⟨RX6, "placesWith", "(III)I"⟩
def dkwX6_placesWith_2 : List UInt8 := [128, 54, 4, 132, 5, 1, 167, 255, 208, 21, 4, 172]
abbrev dktX6_placesWith_2 : List UInt8 := dkwX6_placesWith_2 ++ []
def dkwX6_placesWith_1 : List UInt8 := [42, 28, 21, 5, 182, 0, 99, 96, 46, 29, 184, 0, 102, 153, 0, 10, 4, 21, 5, 120, 167, 0, 4, 3]
abbrev dktX6_placesWith_1 : List UInt8 := dkwX6_placesWith_1 ++ dktX6_placesWith_2
def dkwX6_placesWith_0 : List UInt8 := [3, 54, 4, 3, 54, 5, 21, 5, 42, 180, 0, 7, 3, 46, 162, 0, 43, 21, 4, 42, 180, 0, 27, 27]
abbrev dktX6_placesWith_0 : List UInt8 := dkwX6_placesWith_0 ++ dktX6_placesWith_1
theorem dksX6_placesWith_0 : cX6_placesWith.data.toList.drop 0 = dktX6_placesWith_0 := by decide +kernel
theorem dksX6_placesWith_1 : cX6_placesWith.data.toList.drop 24 = dktX6_placesWith_1 := dk_seg dksX6_placesWith_0 24 rfl rfl
theorem dksX6_placesWith_2 : cX6_placesWith.data.toList.drop 48 = dktX6_placesWith_2 := dk_seg dksX6_placesWith_1 24 rfl rfl
theorem dX6_placesWith_0 : decode cX6_placesWith 0 = .ok (.iconst 0, 1) := dk_3 (dk_at dksX6_placesWith_0 0 rfl rfl)
theorem dX6_placesWith_1 : decode cX6_placesWith 1 = .ok (.istore 4, 2) := dk_54 4 (dk_at dksX6_placesWith_0 1 rfl rfl)
theorem dX6_placesWith_3 : decode cX6_placesWith 3 = .ok (.iconst 0, 1) := dk_3 (dk_at dksX6_placesWith_0 3 rfl rfl)
theorem dX6_placesWith_4 : decode cX6_placesWith 4 = .ok (.istore 5, 2) := dk_54 5 (dk_at dksX6_placesWith_0 4 rfl rfl)
theorem dX6_placesWith_6 : decode cX6_placesWith 6 = .ok (.iload 5, 2) := dk_21 5 (dk_at dksX6_placesWith_0 6 rfl rfl)
theorem dX6_placesWith_8 : decode cX6_placesWith 8 = .ok (.aload_n 0, 1) := dk_42 (dk_at dksX6_placesWith_0 8 rfl rfl)
theorem dX6_placesWith_9 : decode cX6_placesWith 9 = .ok (.getfield 7, 3) := dk_180 0 7 (dk_at dksX6_placesWith_0 9 rfl rfl)
theorem dX6_placesWith_12 : decode cX6_placesWith 12 = .ok (.iconst 0, 1) := dk_3 (dk_at dksX6_placesWith_0 12 rfl rfl)
theorem dX6_placesWith_13 : decode cX6_placesWith 13 = .ok (.iaload, 1) := dk_46 (dk_at dksX6_placesWith_0 13 rfl rfl)
theorem dX6_placesWith_14 : decode cX6_placesWith 14 = .ok (.if_icmp .ge 43, 3) := dk_162 0 43 (dk_at dksX6_placesWith_0 14 rfl rfl)
theorem dX6_placesWith_17 : decode cX6_placesWith 17 = .ok (.iload 4, 2) := dk_21 4 (dk_at dksX6_placesWith_0 17 rfl rfl)
theorem dX6_placesWith_19 : decode cX6_placesWith 19 = .ok (.aload_n 0, 1) := dk_42 (dk_at dksX6_placesWith_0 19 rfl rfl)
theorem dX6_placesWith_20 : decode cX6_placesWith 20 = .ok (.getfield 27, 3) := dk_180 0 27 (dk_at dksX6_placesWith_0 20 rfl rfl)
theorem dX6_placesWith_23 : decode cX6_placesWith 23 = .ok (.iload_n 1, 1) := dk_27 (dk_at dksX6_placesWith_0 23 rfl rfl)
theorem dX6_placesWith_24 : decode cX6_placesWith 24 = .ok (.aload_n 0, 1) := dk_42 (dk_at dksX6_placesWith_1 0 rfl rfl)
theorem dX6_placesWith_25 : decode cX6_placesWith 25 = .ok (.iload_n 2, 1) := dk_28 (dk_at dksX6_placesWith_1 1 rfl rfl)
theorem dX6_placesWith_26 : decode cX6_placesWith 26 = .ok (.iload 5, 2) := dk_21 5 (dk_at dksX6_placesWith_1 2 rfl rfl)
theorem dX6_placesWith_28 : decode cX6_placesWith 28 = .ok (.invokevirtual 99, 3) := dk_182 0 99 (dk_at dksX6_placesWith_1 4 rfl rfl)
theorem dX6_placesWith_31 : decode cX6_placesWith 31 = .ok (.iadd, 1) := dk_96 (dk_at dksX6_placesWith_1 7 rfl rfl)
theorem dX6_placesWith_32 : decode cX6_placesWith 32 = .ok (.iaload, 1) := dk_46 (dk_at dksX6_placesWith_1 8 rfl rfl)
theorem dX6_placesWith_33 : decode cX6_placesWith 33 = .ok (.iload_n 3, 1) := dk_29 (dk_at dksX6_placesWith_1 9 rfl rfl)
theorem dX6_placesWith_34 : decode cX6_placesWith 34 = .ok (.invokestatic 102, 3) := dk_184 0 102 (dk_at dksX6_placesWith_1 10 rfl rfl)
theorem dX6_placesWith_37 : decode cX6_placesWith 37 = .ok (.ifCond .eq 10, 3) := dk_153 0 10 (dk_at dksX6_placesWith_1 13 rfl rfl)
theorem dX6_placesWith_40 : decode cX6_placesWith 40 = .ok (.iconst 1, 1) := dk_4 (dk_at dksX6_placesWith_1 16 rfl rfl)
theorem dX6_placesWith_41 : decode cX6_placesWith 41 = .ok (.iload 5, 2) := dk_21 5 (dk_at dksX6_placesWith_1 17 rfl rfl)
theorem dX6_placesWith_43 : decode cX6_placesWith 43 = .ok (.ishl, 1) := dk_120 (dk_at dksX6_placesWith_1 19 rfl rfl)
theorem dX6_placesWith_44 : decode cX6_placesWith 44 = .ok (.goto 4, 3) := dk_167 0 4 (dk_at dksX6_placesWith_1 20 rfl rfl)
theorem dX6_placesWith_47 : decode cX6_placesWith 47 = .ok (.iconst 0, 1) := dk_3 (dk_at dksX6_placesWith_1 23 rfl rfl)
theorem dX6_placesWith_48 : decode cX6_placesWith 48 = .ok (.ior, 1) := dk_128 (dk_at dksX6_placesWith_2 0 rfl rfl)
theorem dX6_placesWith_49 : decode cX6_placesWith 49 = .ok (.istore 4, 2) := dk_54 4 (dk_at dksX6_placesWith_2 1 rfl rfl)
theorem dX6_placesWith_51 : decode cX6_placesWith 51 = .ok (.iinc 5 1, 3) := dk_132 5 1 (dk_at dksX6_placesWith_2 3 rfl rfl)
theorem dX6_placesWith_54 : decode cX6_placesWith 54 = .ok (.goto (-48), 3) := dk_167 255 208 (dk_at dksX6_placesWith_2 6 rfl rfl)
theorem dX6_placesWith_57 : decode cX6_placesWith 57 = .ok (.iload 4, 2) := dk_21 4 (dk_at dksX6_placesWith_2 9 rfl rfl)
theorem dX6_placesWith_59 : decode cX6_placesWith 59 = .ok (.ireturn, 1) := dk_172 (dk_at dksX6_placesWith_2 11 rfl rfl)
abbrev cX6_placeIn : ByteArray := prog_10_method_22_code
def yX6_placeIn : MethodName := ⟨RX6, "placeIn", "(II)I"⟩
def dkwX6_placeIn_1 : List UInt8 := [180, 0, 7, 3, 46, 108, 172]
abbrev dktX6_placeIn_1 : List UInt8 := dkwX6_placeIn_1 ++ []
def dkwX6_placeIn_0 : List UInt8 := [27, 42, 180, 0, 7, 3, 46, 162, 0, 14, 28, 42, 180, 0, 7, 3, 46, 112, 167, 0, 11, 28, 42]
abbrev dktX6_placeIn_0 : List UInt8 := dkwX6_placeIn_0 ++ dktX6_placeIn_1
theorem dksX6_placeIn_0 : cX6_placeIn.data.toList.drop 0 = dktX6_placeIn_0 := by decide +kernel
theorem dksX6_placeIn_1 : cX6_placeIn.data.toList.drop 23 = dktX6_placeIn_1 := dk_seg dksX6_placeIn_0 23 rfl rfl
theorem dX6_placeIn_0 : decode cX6_placeIn 0 = .ok (.iload_n 1, 1) := dk_27 (dk_at dksX6_placeIn_0 0 rfl rfl)
theorem dX6_placeIn_1 : decode cX6_placeIn 1 = .ok (.aload_n 0, 1) := dk_42 (dk_at dksX6_placeIn_0 1 rfl rfl)
theorem dX6_placeIn_2 : decode cX6_placeIn 2 = .ok (.getfield 7, 3) := dk_180 0 7 (dk_at dksX6_placeIn_0 2 rfl rfl)
theorem dX6_placeIn_5 : decode cX6_placeIn 5 = .ok (.iconst 0, 1) := dk_3 (dk_at dksX6_placeIn_0 5 rfl rfl)
theorem dX6_placeIn_6 : decode cX6_placeIn 6 = .ok (.iaload, 1) := dk_46 (dk_at dksX6_placeIn_0 6 rfl rfl)
theorem dX6_placeIn_7 : decode cX6_placeIn 7 = .ok (.if_icmp .ge 14, 3) := dk_162 0 14 (dk_at dksX6_placeIn_0 7 rfl rfl)
theorem dX6_placeIn_10 : decode cX6_placeIn 10 = .ok (.iload_n 2, 1) := dk_28 (dk_at dksX6_placeIn_0 10 rfl rfl)
theorem dX6_placeIn_11 : decode cX6_placeIn 11 = .ok (.aload_n 0, 1) := dk_42 (dk_at dksX6_placeIn_0 11 rfl rfl)
theorem dX6_placeIn_12 : decode cX6_placeIn 12 = .ok (.getfield 7, 3) := dk_180 0 7 (dk_at dksX6_placeIn_0 12 rfl rfl)
theorem dX6_placeIn_15 : decode cX6_placeIn 15 = .ok (.iconst 0, 1) := dk_3 (dk_at dksX6_placeIn_0 15 rfl rfl)
theorem dX6_placeIn_16 : decode cX6_placeIn 16 = .ok (.iaload, 1) := dk_46 (dk_at dksX6_placeIn_0 16 rfl rfl)
theorem dX6_placeIn_17 : decode cX6_placeIn 17 = .ok (.irem, 1) := dk_112 (dk_at dksX6_placeIn_0 17 rfl rfl)
theorem dX6_placeIn_18 : decode cX6_placeIn 18 = .ok (.goto 11, 3) := dk_167 0 11 (dk_at dksX6_placeIn_0 18 rfl rfl)
theorem dX6_placeIn_21 : decode cX6_placeIn 21 = .ok (.iload_n 2, 1) := dk_28 (dk_at dksX6_placeIn_0 21 rfl rfl)
theorem dX6_placeIn_22 : decode cX6_placeIn 22 = .ok (.aload_n 0, 1) := dk_42 (dk_at dksX6_placeIn_0 22 rfl rfl)
theorem dX6_placeIn_23 : decode cX6_placeIn 23 = .ok (.getfield 7, 3) := dk_180 0 7 (dk_at dksX6_placeIn_1 0 rfl rfl)
theorem dX6_placeIn_26 : decode cX6_placeIn 26 = .ok (.iconst 0, 1) := dk_3 (dk_at dksX6_placeIn_1 3 rfl rfl)
theorem dX6_placeIn_27 : decode cX6_placeIn 27 = .ok (.iaload, 1) := dk_46 (dk_at dksX6_placeIn_1 4 rfl rfl)
theorem dX6_placeIn_28 : decode cX6_placeIn 28 = .ok (.idiv, 1) := dk_108 (dk_at dksX6_placeIn_1 5 rfl rfl)
theorem dX6_placeIn_29 : decode cX6_placeIn 29 = .ok (.ireturn, 1) := dk_172 (dk_at dksX6_placeIn_1 6 rfl rfl)
abbrev cX6_allLines : ByteArray := prog_10_method_46_code
def yX6_allLines : MethodName := ⟨RX6, "allLines", "()I"⟩
def dkwX6_allLines_0 : List UInt8 := [4, 42, 182, 0, 77, 120, 4, 100, 172]
abbrev dktX6_allLines_0 : List UInt8 := dkwX6_allLines_0 ++ []
theorem dksX6_allLines_0 : cX6_allLines.data.toList.drop 0 = dktX6_allLines_0 := by decide +kernel
theorem dX6_allLines_0 : decode cX6_allLines 0 = .ok (.iconst 1, 1) := dk_4 (dk_at dksX6_allLines_0 0 rfl rfl)
theorem dX6_allLines_1 : decode cX6_allLines 1 = .ok (.aload_n 0, 1) := dk_42 (dk_at dksX6_allLines_0 1 rfl rfl)
theorem dX6_allLines_2 : decode cX6_allLines 2 = .ok (.invokevirtual 77, 3) := dk_182 0 77 (dk_at dksX6_allLines_0 2 rfl rfl)
theorem dX6_allLines_5 : decode cX6_allLines 5 = .ok (.ishl, 1) := dk_120 (dk_at dksX6_allLines_0 5 rfl rfl)
theorem dX6_allLines_6 : decode cX6_allLines 6 = .ok (.iconst 1, 1) := dk_4 (dk_at dksX6_allLines_0 6 rfl rfl)
theorem dX6_allLines_7 : decode cX6_allLines 7 = .ok (.isub, 1) := dk_100 (dk_at dksX6_allLines_0 7 rfl rfl)
theorem dX6_allLines_8 : decode cX6_allLines 8 = .ok (.ireturn, 1) := dk_172 (dk_at dksX6_allLines_0 8 rfl rfl)
abbrev cX6_breaks : ByteArray := prog_10_method_45_code
def yX6_breaks : MethodName := ⟨RX6, "breaks", "(IIII)Z"⟩
def dkwX6_breaks_1 : List UInt8 := [182, 0, 164, 154, 0, 7, 4, 167, 0, 4, 3, 172]
abbrev dktX6_breaks_1 : List UInt8 := dkwX6_breaks_1 ++ []
def dkwX6_breaks_0 : List UInt8 := [42, 27, 16, 50, 182, 0, 161, 42, 180, 0, 27, 16, 50, 28, 96, 4, 29, 120, 79, 42, 16, 50, 21, 4]
abbrev dktX6_breaks_0 : List UInt8 := dkwX6_breaks_0 ++ dktX6_breaks_1
theorem dksX6_breaks_0 : cX6_breaks.data.toList.drop 0 = dktX6_breaks_0 := by decide +kernel
theorem dksX6_breaks_1 : cX6_breaks.data.toList.drop 24 = dktX6_breaks_1 := dk_seg dksX6_breaks_0 24 rfl rfl
theorem dX6_breaks_0 : decode cX6_breaks 0 = .ok (.aload_n 0, 1) := dk_42 (dk_at dksX6_breaks_0 0 rfl rfl)
theorem dX6_breaks_1 : decode cX6_breaks 1 = .ok (.iload_n 1, 1) := dk_27 (dk_at dksX6_breaks_0 1 rfl rfl)
theorem dX6_breaks_2 : decode cX6_breaks 2 = .ok (.bipush 50, 2) := dk_16 50 (dk_at dksX6_breaks_0 2 rfl rfl)
theorem dX6_breaks_4 : decode cX6_breaks 4 = .ok (.invokevirtual 161, 3) := dk_182 0 161 (dk_at dksX6_breaks_0 4 rfl rfl)
theorem dX6_breaks_7 : decode cX6_breaks 7 = .ok (.aload_n 0, 1) := dk_42 (dk_at dksX6_breaks_0 7 rfl rfl)
theorem dX6_breaks_8 : decode cX6_breaks 8 = .ok (.getfield 27, 3) := dk_180 0 27 (dk_at dksX6_breaks_0 8 rfl rfl)
theorem dX6_breaks_11 : decode cX6_breaks 11 = .ok (.bipush 50, 2) := dk_16 50 (dk_at dksX6_breaks_0 11 rfl rfl)
theorem dX6_breaks_13 : decode cX6_breaks 13 = .ok (.iload_n 2, 1) := dk_28 (dk_at dksX6_breaks_0 13 rfl rfl)
theorem dX6_breaks_14 : decode cX6_breaks 14 = .ok (.iadd, 1) := dk_96 (dk_at dksX6_breaks_0 14 rfl rfl)
theorem dX6_breaks_15 : decode cX6_breaks 15 = .ok (.iconst 1, 1) := dk_4 (dk_at dksX6_breaks_0 15 rfl rfl)
theorem dX6_breaks_16 : decode cX6_breaks 16 = .ok (.iload_n 3, 1) := dk_29 (dk_at dksX6_breaks_0 16 rfl rfl)
theorem dX6_breaks_17 : decode cX6_breaks 17 = .ok (.ishl, 1) := dk_120 (dk_at dksX6_breaks_0 17 rfl rfl)
theorem dX6_breaks_18 : decode cX6_breaks 18 = .ok (.iastore, 1) := dk_79 (dk_at dksX6_breaks_0 18 rfl rfl)
theorem dX6_breaks_19 : decode cX6_breaks 19 = .ok (.aload_n 0, 1) := dk_42 (dk_at dksX6_breaks_0 19 rfl rfl)
theorem dX6_breaks_20 : decode cX6_breaks 20 = .ok (.bipush 50, 2) := dk_16 50 (dk_at dksX6_breaks_0 20 rfl rfl)
theorem dX6_breaks_22 : decode cX6_breaks 22 = .ok (.iload 4, 2) := dk_21 4 (dk_at dksX6_breaks_0 22 rfl rfl)
theorem dX6_breaks_24 : decode cX6_breaks 24 = .ok (.invokevirtual 164, 3) := dk_182 0 164 (dk_at dksX6_breaks_1 0 rfl rfl)
theorem dX6_breaks_27 : decode cX6_breaks 27 = .ok (.ifCond .ne 7, 3) := dk_154 0 7 (dk_at dksX6_breaks_1 3 rfl rfl)
theorem dX6_breaks_30 : decode cX6_breaks 30 = .ok (.iconst 1, 1) := dk_4 (dk_at dksX6_breaks_1 6 rfl rfl)
theorem dX6_breaks_31 : decode cX6_breaks 31 = .ok (.goto 4, 3) := dk_167 0 4 (dk_at dksX6_breaks_1 7 rfl rfl)
theorem dX6_breaks_34 : decode cX6_breaks 34 = .ok (.iconst 0, 1) := dk_3 (dk_at dksX6_breaks_1 10 rfl rfl)
theorem dX6_breaks_35 : decode cX6_breaks 35 = .ok (.ireturn, 1) := dk_172 (dk_at dksX6_breaks_1 11 rfl rfl)
abbrev cX6_layers : ByteArray := prog_10_method_34_code
def yX6_layers : MethodName := ⟨RX6, "layers", "(II)V"⟩
def dkwX6_layers_1 : List UInt8 := [132, 3, 1, 167, 255, 231, 177]
abbrev dktX6_layers_1 : List UInt8 := dkwX6_layers_1 ++ []
def dkwX6_layers_0 : List UInt8 := [3, 62, 29, 16, 25, 162, 0, 25, 42, 180, 0, 27, 28, 29, 96, 42, 180, 0, 27, 27, 29, 96, 46, 79]
abbrev dktX6_layers_0 : List UInt8 := dkwX6_layers_0 ++ dktX6_layers_1
theorem dksX6_layers_0 : cX6_layers.data.toList.drop 0 = dktX6_layers_0 := by decide +kernel
theorem dksX6_layers_1 : cX6_layers.data.toList.drop 24 = dktX6_layers_1 := dk_seg dksX6_layers_0 24 rfl rfl
theorem dX6_layers_0 : decode cX6_layers 0 = .ok (.iconst 0, 1) := dk_3 (dk_at dksX6_layers_0 0 rfl rfl)
theorem dX6_layers_1 : decode cX6_layers 1 = .ok (.istore_n 3, 1) := dk_62 (dk_at dksX6_layers_0 1 rfl rfl)
theorem dX6_layers_2 : decode cX6_layers 2 = .ok (.iload_n 3, 1) := dk_29 (dk_at dksX6_layers_0 2 rfl rfl)
theorem dX6_layers_3 : decode cX6_layers 3 = .ok (.bipush 25, 2) := dk_16 25 (dk_at dksX6_layers_0 3 rfl rfl)
theorem dX6_layers_5 : decode cX6_layers 5 = .ok (.if_icmp .ge 25, 3) := dk_162 0 25 (dk_at dksX6_layers_0 5 rfl rfl)
theorem dX6_layers_8 : decode cX6_layers 8 = .ok (.aload_n 0, 1) := dk_42 (dk_at dksX6_layers_0 8 rfl rfl)
theorem dX6_layers_9 : decode cX6_layers 9 = .ok (.getfield 27, 3) := dk_180 0 27 (dk_at dksX6_layers_0 9 rfl rfl)
theorem dX6_layers_12 : decode cX6_layers 12 = .ok (.iload_n 2, 1) := dk_28 (dk_at dksX6_layers_0 12 rfl rfl)
theorem dX6_layers_13 : decode cX6_layers 13 = .ok (.iload_n 3, 1) := dk_29 (dk_at dksX6_layers_0 13 rfl rfl)
theorem dX6_layers_14 : decode cX6_layers 14 = .ok (.iadd, 1) := dk_96 (dk_at dksX6_layers_0 14 rfl rfl)
theorem dX6_layers_15 : decode cX6_layers 15 = .ok (.aload_n 0, 1) := dk_42 (dk_at dksX6_layers_0 15 rfl rfl)
theorem dX6_layers_16 : decode cX6_layers 16 = .ok (.getfield 27, 3) := dk_180 0 27 (dk_at dksX6_layers_0 16 rfl rfl)
theorem dX6_layers_19 : decode cX6_layers 19 = .ok (.iload_n 1, 1) := dk_27 (dk_at dksX6_layers_0 19 rfl rfl)
theorem dX6_layers_20 : decode cX6_layers 20 = .ok (.iload_n 3, 1) := dk_29 (dk_at dksX6_layers_0 20 rfl rfl)
theorem dX6_layers_21 : decode cX6_layers 21 = .ok (.iadd, 1) := dk_96 (dk_at dksX6_layers_0 21 rfl rfl)
theorem dX6_layers_22 : decode cX6_layers 22 = .ok (.iaload, 1) := dk_46 (dk_at dksX6_layers_0 22 rfl rfl)
theorem dX6_layers_23 : decode cX6_layers 23 = .ok (.iastore, 1) := dk_79 (dk_at dksX6_layers_0 23 rfl rfl)
theorem dX6_layers_24 : decode cX6_layers 24 = .ok (.iinc 3 1, 3) := dk_132 3 1 (dk_at dksX6_layers_1 0 rfl rfl)
theorem dX6_layers_27 : decode cX6_layers 27 = .ok (.goto (-25), 3) := dk_167 255 231 (dk_at dksX6_layers_1 3 rfl rfl)
theorem dX6_layers_30 : decode cX6_layers 30 = .ok (.return_, 1) := dk_177 (dk_at dksX6_layers_1 6 rfl rfl)
abbrev cX6_closes : ByteArray := prog_10_method_33_code
def yX6_closes : MethodName := ⟨RX6, "closes", "(II)Z"⟩
def dkwX6_closes_6 : List UInt8 := [4, 172]
abbrev dktX6_closes_6 : List UInt8 := dkwX6_closes_6 ++ []
def dkwX6_closes_5 : List UInt8 := [42, 21, 6, 182, 0, 122, 4, 21, 4, 120, 2, 130, 126, 128, 62, 132, 5, 1, 167, 255, 168, 167, 255, 119]
abbrev dktX6_closes_5 : List UInt8 := dkwX6_closes_5 ++ dktX6_closes_6
def dkwX6_closes_4 : List UInt8 := [46, 159, 0, 38, 42, 180, 0, 27, 27, 21, 6, 96, 92, 46, 42, 180, 0, 30, 21, 5, 46, 126, 79, 29]
abbrev dktX6_closes_4 : List UInt8 := dkwX6_closes_4 ++ dktX6_closes_5
def dkwX6_closes_3 : List UInt8 := [180, 0, 27, 27, 21, 6, 96, 46, 42, 180, 0, 30, 21, 5, 46, 126, 42, 180, 0, 27, 27, 21, 6, 96]
abbrev dktX6_closes_3 : List UInt8 := dkwX6_closes_3 ++ dktX6_closes_4
def dkwX6_closes_2 : List UInt8 := [21, 5, 42, 180, 0, 7, 3, 46, 162, 0, 83, 42, 21, 4, 21, 5, 182, 0, 99, 54, 6, 42]
abbrev dktX6_closes_2 : List UInt8 := dkwX6_closes_2 ++ dktX6_closes_3
def dkwX6_closes_1 : List UInt8 := [29, 4, 21, 4, 120, 2, 130, 126, 62, 42, 27, 21, 4, 182, 0, 119, 154, 0, 5, 3, 172, 3, 54, 5]
abbrev dktX6_closes_1 : List UInt8 := dkwX6_closes_1 ++ dktX6_closes_2
def dkwX6_closes_0 : List UInt8 := [28, 62, 29, 153, 0, 139, 3, 54, 4, 29, 21, 4, 122, 4, 126, 154, 0, 9, 132, 4, 1, 167, 255, 244]
abbrev dktX6_closes_0 : List UInt8 := dkwX6_closes_0 ++ dktX6_closes_1
theorem dksX6_closes_0 : cX6_closes.data.toList.drop 0 = dktX6_closes_0 := by decide +kernel
theorem dksX6_closes_1 : cX6_closes.data.toList.drop 24 = dktX6_closes_1 := dk_seg dksX6_closes_0 24 rfl rfl
theorem dksX6_closes_2 : cX6_closes.data.toList.drop 48 = dktX6_closes_2 := dk_seg dksX6_closes_1 24 rfl rfl
theorem dksX6_closes_3 : cX6_closes.data.toList.drop 70 = dktX6_closes_3 := dk_seg dksX6_closes_2 22 rfl rfl
theorem dksX6_closes_4 : cX6_closes.data.toList.drop 94 = dktX6_closes_4 := dk_seg dksX6_closes_3 24 rfl rfl
theorem dksX6_closes_5 : cX6_closes.data.toList.drop 118 = dktX6_closes_5 := dk_seg dksX6_closes_4 24 rfl rfl
theorem dksX6_closes_6 : cX6_closes.data.toList.drop 142 = dktX6_closes_6 := dk_seg dksX6_closes_5 24 rfl rfl
theorem dX6_closes_0 : decode cX6_closes 0 = .ok (.iload_n 2, 1) := dk_28 (dk_at dksX6_closes_0 0 rfl rfl)
theorem dX6_closes_1 : decode cX6_closes 1 = .ok (.istore_n 3, 1) := dk_62 (dk_at dksX6_closes_0 1 rfl rfl)
theorem dX6_closes_2 : decode cX6_closes 2 = .ok (.iload_n 3, 1) := dk_29 (dk_at dksX6_closes_0 2 rfl rfl)
theorem dX6_closes_3 : decode cX6_closes 3 = .ok (.ifCond .eq 139, 3) := dk_153 0 139 (dk_at dksX6_closes_0 3 rfl rfl)
theorem dX6_closes_6 : decode cX6_closes 6 = .ok (.iconst 0, 1) := dk_3 (dk_at dksX6_closes_0 6 rfl rfl)
theorem dX6_closes_7 : decode cX6_closes 7 = .ok (.istore 4, 2) := dk_54 4 (dk_at dksX6_closes_0 7 rfl rfl)
theorem dX6_closes_9 : decode cX6_closes 9 = .ok (.iload_n 3, 1) := dk_29 (dk_at dksX6_closes_0 9 rfl rfl)
theorem dX6_closes_10 : decode cX6_closes 10 = .ok (.iload 4, 2) := dk_21 4 (dk_at dksX6_closes_0 10 rfl rfl)
theorem dX6_closes_12 : decode cX6_closes 12 = .ok (.ishr, 1) := dk_122 (dk_at dksX6_closes_0 12 rfl rfl)
theorem dX6_closes_13 : decode cX6_closes 13 = .ok (.iconst 1, 1) := dk_4 (dk_at dksX6_closes_0 13 rfl rfl)
theorem dX6_closes_14 : decode cX6_closes 14 = .ok (.iand, 1) := dk_126 (dk_at dksX6_closes_0 14 rfl rfl)
theorem dX6_closes_15 : decode cX6_closes 15 = .ok (.ifCond .ne 9, 3) := dk_154 0 9 (dk_at dksX6_closes_0 15 rfl rfl)
theorem dX6_closes_18 : decode cX6_closes 18 = .ok (.iinc 4 1, 3) := dk_132 4 1 (dk_at dksX6_closes_0 18 rfl rfl)
theorem dX6_closes_21 : decode cX6_closes 21 = .ok (.goto (-12), 3) := dk_167 255 244 (dk_at dksX6_closes_0 21 rfl rfl)
theorem dX6_closes_24 : decode cX6_closes 24 = .ok (.iload_n 3, 1) := dk_29 (dk_at dksX6_closes_1 0 rfl rfl)
theorem dX6_closes_25 : decode cX6_closes 25 = .ok (.iconst 1, 1) := dk_4 (dk_at dksX6_closes_1 1 rfl rfl)
theorem dX6_closes_26 : decode cX6_closes 26 = .ok (.iload 4, 2) := dk_21 4 (dk_at dksX6_closes_1 2 rfl rfl)
theorem dX6_closes_28 : decode cX6_closes 28 = .ok (.ishl, 1) := dk_120 (dk_at dksX6_closes_1 4 rfl rfl)
theorem dX6_closes_29 : decode cX6_closes 29 = .ok (.iconst (-1), 1) := dk_2 (dk_at dksX6_closes_1 5 rfl rfl)
theorem dX6_closes_30 : decode cX6_closes 30 = .ok (.ixor, 1) := dk_130 (dk_at dksX6_closes_1 6 rfl rfl)
theorem dX6_closes_31 : decode cX6_closes 31 = .ok (.iand, 1) := dk_126 (dk_at dksX6_closes_1 7 rfl rfl)
theorem dX6_closes_32 : decode cX6_closes 32 = .ok (.istore_n 3, 1) := dk_62 (dk_at dksX6_closes_1 8 rfl rfl)
theorem dX6_closes_33 : decode cX6_closes 33 = .ok (.aload_n 0, 1) := dk_42 (dk_at dksX6_closes_1 9 rfl rfl)
theorem dX6_closes_34 : decode cX6_closes 34 = .ok (.iload_n 1, 1) := dk_27 (dk_at dksX6_closes_1 10 rfl rfl)
theorem dX6_closes_35 : decode cX6_closes 35 = .ok (.iload 4, 2) := dk_21 4 (dk_at dksX6_closes_1 11 rfl rfl)
theorem dX6_closes_37 : decode cX6_closes 37 = .ok (.invokevirtual 119, 3) := dk_182 0 119 (dk_at dksX6_closes_1 13 rfl rfl)
theorem dX6_closes_40 : decode cX6_closes 40 = .ok (.ifCond .ne 5, 3) := dk_154 0 5 (dk_at dksX6_closes_1 16 rfl rfl)
theorem dX6_closes_43 : decode cX6_closes 43 = .ok (.iconst 0, 1) := dk_3 (dk_at dksX6_closes_1 19 rfl rfl)
theorem dX6_closes_44 : decode cX6_closes 44 = .ok (.ireturn, 1) := dk_172 (dk_at dksX6_closes_1 20 rfl rfl)
theorem dX6_closes_45 : decode cX6_closes 45 = .ok (.iconst 0, 1) := dk_3 (dk_at dksX6_closes_1 21 rfl rfl)
theorem dX6_closes_46 : decode cX6_closes 46 = .ok (.istore 5, 2) := dk_54 5 (dk_at dksX6_closes_1 22 rfl rfl)
theorem dX6_closes_48 : decode cX6_closes 48 = .ok (.iload 5, 2) := dk_21 5 (dk_at dksX6_closes_2 0 rfl rfl)
theorem dX6_closes_50 : decode cX6_closes 50 = .ok (.aload_n 0, 1) := dk_42 (dk_at dksX6_closes_2 2 rfl rfl)
theorem dX6_closes_51 : decode cX6_closes 51 = .ok (.getfield 7, 3) := dk_180 0 7 (dk_at dksX6_closes_2 3 rfl rfl)
theorem dX6_closes_54 : decode cX6_closes 54 = .ok (.iconst 0, 1) := dk_3 (dk_at dksX6_closes_2 6 rfl rfl)
theorem dX6_closes_55 : decode cX6_closes 55 = .ok (.iaload, 1) := dk_46 (dk_at dksX6_closes_2 7 rfl rfl)
theorem dX6_closes_56 : decode cX6_closes 56 = .ok (.if_icmp .ge 83, 3) := dk_162 0 83 (dk_at dksX6_closes_2 8 rfl rfl)
theorem dX6_closes_59 : decode cX6_closes 59 = .ok (.aload_n 0, 1) := dk_42 (dk_at dksX6_closes_2 11 rfl rfl)
theorem dX6_closes_60 : decode cX6_closes 60 = .ok (.iload 4, 2) := dk_21 4 (dk_at dksX6_closes_2 12 rfl rfl)
theorem dX6_closes_62 : decode cX6_closes 62 = .ok (.iload 5, 2) := dk_21 5 (dk_at dksX6_closes_2 14 rfl rfl)
theorem dX6_closes_64 : decode cX6_closes 64 = .ok (.invokevirtual 99, 3) := dk_182 0 99 (dk_at dksX6_closes_2 16 rfl rfl)
theorem dX6_closes_67 : decode cX6_closes 67 = .ok (.istore 6, 2) := dk_54 6 (dk_at dksX6_closes_2 19 rfl rfl)
theorem dX6_closes_69 : decode cX6_closes 69 = .ok (.aload_n 0, 1) := dk_42 (dk_at dksX6_closes_2 21 rfl rfl)
theorem dX6_closes_70 : decode cX6_closes 70 = .ok (.getfield 27, 3) := dk_180 0 27 (dk_at dksX6_closes_3 0 rfl rfl)
theorem dX6_closes_73 : decode cX6_closes 73 = .ok (.iload_n 1, 1) := dk_27 (dk_at dksX6_closes_3 3 rfl rfl)
theorem dX6_closes_74 : decode cX6_closes 74 = .ok (.iload 6, 2) := dk_21 6 (dk_at dksX6_closes_3 4 rfl rfl)
theorem dX6_closes_76 : decode cX6_closes 76 = .ok (.iadd, 1) := dk_96 (dk_at dksX6_closes_3 6 rfl rfl)
theorem dX6_closes_77 : decode cX6_closes 77 = .ok (.iaload, 1) := dk_46 (dk_at dksX6_closes_3 7 rfl rfl)
theorem dX6_closes_78 : decode cX6_closes 78 = .ok (.aload_n 0, 1) := dk_42 (dk_at dksX6_closes_3 8 rfl rfl)
theorem dX6_closes_79 : decode cX6_closes 79 = .ok (.getfield 30, 3) := dk_180 0 30 (dk_at dksX6_closes_3 9 rfl rfl)
theorem dX6_closes_82 : decode cX6_closes 82 = .ok (.iload 5, 2) := dk_21 5 (dk_at dksX6_closes_3 12 rfl rfl)
theorem dX6_closes_84 : decode cX6_closes 84 = .ok (.iaload, 1) := dk_46 (dk_at dksX6_closes_3 14 rfl rfl)
theorem dX6_closes_85 : decode cX6_closes 85 = .ok (.iand, 1) := dk_126 (dk_at dksX6_closes_3 15 rfl rfl)
theorem dX6_closes_86 : decode cX6_closes 86 = .ok (.aload_n 0, 1) := dk_42 (dk_at dksX6_closes_3 16 rfl rfl)
theorem dX6_closes_87 : decode cX6_closes 87 = .ok (.getfield 27, 3) := dk_180 0 27 (dk_at dksX6_closes_3 17 rfl rfl)
theorem dX6_closes_90 : decode cX6_closes 90 = .ok (.iload_n 1, 1) := dk_27 (dk_at dksX6_closes_3 20 rfl rfl)
theorem dX6_closes_91 : decode cX6_closes 91 = .ok (.iload 6, 2) := dk_21 6 (dk_at dksX6_closes_3 21 rfl rfl)
theorem dX6_closes_93 : decode cX6_closes 93 = .ok (.iadd, 1) := dk_96 (dk_at dksX6_closes_3 23 rfl rfl)
theorem dX6_closes_94 : decode cX6_closes 94 = .ok (.iaload, 1) := dk_46 (dk_at dksX6_closes_4 0 rfl rfl)
theorem dX6_closes_95 : decode cX6_closes 95 = .ok (.if_icmp .eq 38, 3) := dk_159 0 38 (dk_at dksX6_closes_4 1 rfl rfl)
theorem dX6_closes_98 : decode cX6_closes 98 = .ok (.aload_n 0, 1) := dk_42 (dk_at dksX6_closes_4 4 rfl rfl)
theorem dX6_closes_99 : decode cX6_closes 99 = .ok (.getfield 27, 3) := dk_180 0 27 (dk_at dksX6_closes_4 5 rfl rfl)
theorem dX6_closes_102 : decode cX6_closes 102 = .ok (.iload_n 1, 1) := dk_27 (dk_at dksX6_closes_4 8 rfl rfl)
theorem dX6_closes_103 : decode cX6_closes 103 = .ok (.iload 6, 2) := dk_21 6 (dk_at dksX6_closes_4 9 rfl rfl)
theorem dX6_closes_105 : decode cX6_closes 105 = .ok (.iadd, 1) := dk_96 (dk_at dksX6_closes_4 11 rfl rfl)
theorem dX6_closes_106 : decode cX6_closes 106 = .ok (.dup2, 1) := dk_92 (dk_at dksX6_closes_4 12 rfl rfl)
theorem dX6_closes_107 : decode cX6_closes 107 = .ok (.iaload, 1) := dk_46 (dk_at dksX6_closes_4 13 rfl rfl)
theorem dX6_closes_108 : decode cX6_closes 108 = .ok (.aload_n 0, 1) := dk_42 (dk_at dksX6_closes_4 14 rfl rfl)
theorem dX6_closes_109 : decode cX6_closes 109 = .ok (.getfield 30, 3) := dk_180 0 30 (dk_at dksX6_closes_4 15 rfl rfl)
theorem dX6_closes_112 : decode cX6_closes 112 = .ok (.iload 5, 2) := dk_21 5 (dk_at dksX6_closes_4 18 rfl rfl)
theorem dX6_closes_114 : decode cX6_closes 114 = .ok (.iaload, 1) := dk_46 (dk_at dksX6_closes_4 20 rfl rfl)
theorem dX6_closes_115 : decode cX6_closes 115 = .ok (.iand, 1) := dk_126 (dk_at dksX6_closes_4 21 rfl rfl)
theorem dX6_closes_116 : decode cX6_closes 116 = .ok (.iastore, 1) := dk_79 (dk_at dksX6_closes_4 22 rfl rfl)
theorem dX6_closes_117 : decode cX6_closes 117 = .ok (.iload_n 3, 1) := dk_29 (dk_at dksX6_closes_4 23 rfl rfl)
theorem dX6_closes_118 : decode cX6_closes 118 = .ok (.aload_n 0, 1) := dk_42 (dk_at dksX6_closes_5 0 rfl rfl)
theorem dX6_closes_119 : decode cX6_closes 119 = .ok (.iload 6, 2) := dk_21 6 (dk_at dksX6_closes_5 1 rfl rfl)
theorem dX6_closes_121 : decode cX6_closes 121 = .ok (.invokevirtual 122, 3) := dk_182 0 122 (dk_at dksX6_closes_5 3 rfl rfl)
theorem dX6_closes_124 : decode cX6_closes 124 = .ok (.iconst 1, 1) := dk_4 (dk_at dksX6_closes_5 6 rfl rfl)
theorem dX6_closes_125 : decode cX6_closes 125 = .ok (.iload 4, 2) := dk_21 4 (dk_at dksX6_closes_5 7 rfl rfl)
theorem dX6_closes_127 : decode cX6_closes 127 = .ok (.ishl, 1) := dk_120 (dk_at dksX6_closes_5 9 rfl rfl)
theorem dX6_closes_128 : decode cX6_closes 128 = .ok (.iconst (-1), 1) := dk_2 (dk_at dksX6_closes_5 10 rfl rfl)
theorem dX6_closes_129 : decode cX6_closes 129 = .ok (.ixor, 1) := dk_130 (dk_at dksX6_closes_5 11 rfl rfl)
theorem dX6_closes_130 : decode cX6_closes 130 = .ok (.iand, 1) := dk_126 (dk_at dksX6_closes_5 12 rfl rfl)
theorem dX6_closes_131 : decode cX6_closes 131 = .ok (.ior, 1) := dk_128 (dk_at dksX6_closes_5 13 rfl rfl)
theorem dX6_closes_132 : decode cX6_closes 132 = .ok (.istore_n 3, 1) := dk_62 (dk_at dksX6_closes_5 14 rfl rfl)
theorem dX6_closes_133 : decode cX6_closes 133 = .ok (.iinc 5 1, 3) := dk_132 5 1 (dk_at dksX6_closes_5 15 rfl rfl)
theorem dX6_closes_136 : decode cX6_closes 136 = .ok (.goto (-88), 3) := dk_167 255 168 (dk_at dksX6_closes_5 18 rfl rfl)
theorem dX6_closes_139 : decode cX6_closes 139 = .ok (.goto (-137), 3) := dk_167 255 119 (dk_at dksX6_closes_5 21 rfl rfl)
theorem dX6_closes_142 : decode cX6_closes 142 = .ok (.iconst 1, 1) := dk_4 (dk_at dksX6_closes_6 0 rfl rfl)
theorem dX6_closes_143 : decode cX6_closes 143 = .ok (.ireturn, 1) := dk_172 (dk_at dksX6_closes_6 1 rfl rfl)
abbrev cX6_nextStep : ByteArray := prog_10_method_95_code
def yX6_nextStep : MethodName := ⟨RX6, "nextStep", "()I"⟩
def dkwX6_nextStep_0 : List UInt8 := [42, 3, 181, 0, 55, 42, 3, 182, 0, 126, 42, 3, 16, 6, 182, 0, 173, 172]
abbrev dktX6_nextStep_0 : List UInt8 := dkwX6_nextStep_0 ++ []
theorem dksX6_nextStep_0 : cX6_nextStep.data.toList.drop 0 = dktX6_nextStep_0 := by decide +kernel
theorem dX6_nextStep_0 : decode cX6_nextStep 0 = .ok (.aload_n 0, 1) := dk_42 (dk_at dksX6_nextStep_0 0 rfl rfl)
theorem dX6_nextStep_1 : decode cX6_nextStep 1 = .ok (.iconst 0, 1) := dk_3 (dk_at dksX6_nextStep_0 1 rfl rfl)
theorem dX6_nextStep_2 : decode cX6_nextStep 2 = .ok (.putfield 55, 3) := dk_181 0 55 (dk_at dksX6_nextStep_0 2 rfl rfl)
theorem dX6_nextStep_5 : decode cX6_nextStep 5 = .ok (.aload_n 0, 1) := dk_42 (dk_at dksX6_nextStep_0 5 rfl rfl)
theorem dX6_nextStep_6 : decode cX6_nextStep 6 = .ok (.iconst 0, 1) := dk_3 (dk_at dksX6_nextStep_0 6 rfl rfl)
theorem dX6_nextStep_7 : decode cX6_nextStep 7 = .ok (.invokevirtual 126, 3) := dk_182 0 126 (dk_at dksX6_nextStep_0 7 rfl rfl)
theorem dX6_nextStep_10 : decode cX6_nextStep 10 = .ok (.aload_n 0, 1) := dk_42 (dk_at dksX6_nextStep_0 10 rfl rfl)
theorem dX6_nextStep_11 : decode cX6_nextStep 11 = .ok (.iconst 0, 1) := dk_3 (dk_at dksX6_nextStep_0 11 rfl rfl)
theorem dX6_nextStep_12 : decode cX6_nextStep 12 = .ok (.bipush 6, 2) := dk_16 6 (dk_at dksX6_nextStep_0 12 rfl rfl)
theorem dX6_nextStep_14 : decode cX6_nextStep 14 = .ok (.invokevirtual 173, 3) := dk_182 0 173 (dk_at dksX6_nextStep_0 14 rfl rfl)
theorem dX6_nextStep_17 : decode cX6_nextStep 17 = .ok (.ireturn, 1) := dk_172 (dk_at dksX6_nextStep_0 17 rfl rfl)
abbrev cX6_next : ByteArray := prog_10_method_47_code
def yX6_next : MethodName := ⟨RX6, "next", "(II)I"⟩
def dkwX6_next_6 : List UInt8 := [132, 3, 1, 167, 255, 125, 2, 172]
abbrev dktX6_next_6 : List UInt8 := dkwX6_next_6 ++ []
def dkwX6_next_5 : List UInt8 := [29, 104, 16, 10, 21, 4, 104, 96, 21, 6, 96, 172, 132, 6, 1, 167, 255, 168, 132, 4, 1, 167, 255, 139]
abbrev dktX6_next_5 : List UInt8 := dkwX6_next_5 ++ dktX6_next_6
def dkwX6_next_4 : List UInt8 := [167, 0, 21, 42, 27, 21, 4, 21, 6, 42, 21, 4, 182, 0, 122, 182, 0, 170, 153, 0, 18, 17, 3, 232]
abbrev dktX6_next_4 : List UInt8 := dkwX6_next_4 ++ dktX6_next_5
def dkwX6_next_3 : List UInt8 := [153, 0, 58, 29, 16, 6, 162, 0, 19, 42, 29, 27, 21, 4, 21, 6, 182, 0, 167, 153, 0, 39]
abbrev dktX6_next_3 : List UInt8 := dkwX6_next_3 ++ dktX6_next_4
def dkwX6_next_2 : List UInt8 := [180, 0, 7, 4, 46, 163, 0, 83, 42, 21, 5, 182, 0, 136, 154, 0, 74, 21, 5, 21, 6, 184, 0, 102]
abbrev dktX6_next_2 : List UInt8 := dkwX6_next_2 ++ dktX6_next_3
def dkwX6_next_1 : List UInt8 := [182, 0, 66, 162, 0, 114, 42, 180, 0, 27, 27, 21, 4, 96, 46, 54, 5, 3, 54, 6, 21, 6, 42]
abbrev dktX6_next_1 : List UInt8 := dkwX6_next_1 ++ dktX6_next_2
def dkwX6_next_0 : List UInt8 := [42, 27, 182, 0, 130, 153, 0, 5, 2, 172, 4, 62, 29, 28, 163, 0, 132, 3, 54, 4, 21, 4, 42]
abbrev dktX6_next_0 : List UInt8 := dkwX6_next_0 ++ dktX6_next_1
theorem dksX6_next_0 : cX6_next.data.toList.drop 0 = dktX6_next_0 := by decide +kernel
theorem dksX6_next_1 : cX6_next.data.toList.drop 23 = dktX6_next_1 := dk_seg dksX6_next_0 23 rfl rfl
theorem dksX6_next_2 : cX6_next.data.toList.drop 46 = dktX6_next_2 := dk_seg dksX6_next_1 23 rfl rfl
theorem dksX6_next_3 : cX6_next.data.toList.drop 70 = dktX6_next_3 := dk_seg dksX6_next_2 24 rfl rfl
theorem dksX6_next_4 : cX6_next.data.toList.drop 92 = dktX6_next_4 := dk_seg dksX6_next_3 22 rfl rfl
theorem dksX6_next_5 : cX6_next.data.toList.drop 116 = dktX6_next_5 := dk_seg dksX6_next_4 24 rfl rfl
theorem dksX6_next_6 : cX6_next.data.toList.drop 140 = dktX6_next_6 := dk_seg dksX6_next_5 24 rfl rfl
theorem dX6_next_0 : decode cX6_next 0 = .ok (.aload_n 0, 1) := dk_42 (dk_at dksX6_next_0 0 rfl rfl)
theorem dX6_next_1 : decode cX6_next 1 = .ok (.iload_n 1, 1) := dk_27 (dk_at dksX6_next_0 1 rfl rfl)
theorem dX6_next_2 : decode cX6_next 2 = .ok (.invokevirtual 130, 3) := dk_182 0 130 (dk_at dksX6_next_0 2 rfl rfl)
theorem dX6_next_5 : decode cX6_next 5 = .ok (.ifCond .eq 5, 3) := dk_153 0 5 (dk_at dksX6_next_0 5 rfl rfl)
theorem dX6_next_8 : decode cX6_next 8 = .ok (.iconst (-1), 1) := dk_2 (dk_at dksX6_next_0 8 rfl rfl)
theorem dX6_next_9 : decode cX6_next 9 = .ok (.ireturn, 1) := dk_172 (dk_at dksX6_next_0 9 rfl rfl)
theorem dX6_next_10 : decode cX6_next 10 = .ok (.iconst 1, 1) := dk_4 (dk_at dksX6_next_0 10 rfl rfl)
theorem dX6_next_11 : decode cX6_next 11 = .ok (.istore_n 3, 1) := dk_62 (dk_at dksX6_next_0 11 rfl rfl)
theorem dX6_next_12 : decode cX6_next 12 = .ok (.iload_n 3, 1) := dk_29 (dk_at dksX6_next_0 12 rfl rfl)
theorem dX6_next_13 : decode cX6_next 13 = .ok (.iload_n 2, 1) := dk_28 (dk_at dksX6_next_0 13 rfl rfl)
theorem dX6_next_14 : decode cX6_next 14 = .ok (.if_icmp .gt 132, 3) := dk_163 0 132 (dk_at dksX6_next_0 14 rfl rfl)
theorem dX6_next_17 : decode cX6_next 17 = .ok (.iconst 0, 1) := dk_3 (dk_at dksX6_next_0 17 rfl rfl)
theorem dX6_next_18 : decode cX6_next 18 = .ok (.istore 4, 2) := dk_54 4 (dk_at dksX6_next_0 18 rfl rfl)
theorem dX6_next_20 : decode cX6_next 20 = .ok (.iload 4, 2) := dk_21 4 (dk_at dksX6_next_0 20 rfl rfl)
theorem dX6_next_22 : decode cX6_next 22 = .ok (.aload_n 0, 1) := dk_42 (dk_at dksX6_next_0 22 rfl rfl)
theorem dX6_next_23 : decode cX6_next 23 = .ok (.invokevirtual 66, 3) := dk_182 0 66 (dk_at dksX6_next_1 0 rfl rfl)
theorem dX6_next_26 : decode cX6_next 26 = .ok (.if_icmp .ge 114, 3) := dk_162 0 114 (dk_at dksX6_next_1 3 rfl rfl)
theorem dX6_next_29 : decode cX6_next 29 = .ok (.aload_n 0, 1) := dk_42 (dk_at dksX6_next_1 6 rfl rfl)
theorem dX6_next_30 : decode cX6_next 30 = .ok (.getfield 27, 3) := dk_180 0 27 (dk_at dksX6_next_1 7 rfl rfl)
theorem dX6_next_33 : decode cX6_next 33 = .ok (.iload_n 1, 1) := dk_27 (dk_at dksX6_next_1 10 rfl rfl)
theorem dX6_next_34 : decode cX6_next 34 = .ok (.iload 4, 2) := dk_21 4 (dk_at dksX6_next_1 11 rfl rfl)
theorem dX6_next_36 : decode cX6_next 36 = .ok (.iadd, 1) := dk_96 (dk_at dksX6_next_1 13 rfl rfl)
theorem dX6_next_37 : decode cX6_next 37 = .ok (.iaload, 1) := dk_46 (dk_at dksX6_next_1 14 rfl rfl)
theorem dX6_next_38 : decode cX6_next 38 = .ok (.istore 5, 2) := dk_54 5 (dk_at dksX6_next_1 15 rfl rfl)
theorem dX6_next_40 : decode cX6_next 40 = .ok (.iconst 0, 1) := dk_3 (dk_at dksX6_next_1 17 rfl rfl)
theorem dX6_next_41 : decode cX6_next 41 = .ok (.istore 6, 2) := dk_54 6 (dk_at dksX6_next_1 18 rfl rfl)
theorem dX6_next_43 : decode cX6_next 43 = .ok (.iload 6, 2) := dk_21 6 (dk_at dksX6_next_1 20 rfl rfl)
theorem dX6_next_45 : decode cX6_next 45 = .ok (.aload_n 0, 1) := dk_42 (dk_at dksX6_next_1 22 rfl rfl)
theorem dX6_next_46 : decode cX6_next 46 = .ok (.getfield 7, 3) := dk_180 0 7 (dk_at dksX6_next_2 0 rfl rfl)
theorem dX6_next_49 : decode cX6_next 49 = .ok (.iconst 1, 1) := dk_4 (dk_at dksX6_next_2 3 rfl rfl)
theorem dX6_next_50 : decode cX6_next 50 = .ok (.iaload, 1) := dk_46 (dk_at dksX6_next_2 4 rfl rfl)
theorem dX6_next_51 : decode cX6_next 51 = .ok (.if_icmp .gt 83, 3) := dk_163 0 83 (dk_at dksX6_next_2 5 rfl rfl)
theorem dX6_next_54 : decode cX6_next 54 = .ok (.aload_n 0, 1) := dk_42 (dk_at dksX6_next_2 8 rfl rfl)
theorem dX6_next_55 : decode cX6_next 55 = .ok (.iload 5, 2) := dk_21 5 (dk_at dksX6_next_2 9 rfl rfl)
theorem dX6_next_57 : decode cX6_next 57 = .ok (.invokevirtual 136, 3) := dk_182 0 136 (dk_at dksX6_next_2 11 rfl rfl)
theorem dX6_next_60 : decode cX6_next 60 = .ok (.ifCond .ne 74, 3) := dk_154 0 74 (dk_at dksX6_next_2 14 rfl rfl)
theorem dX6_next_63 : decode cX6_next 63 = .ok (.iload 5, 2) := dk_21 5 (dk_at dksX6_next_2 17 rfl rfl)
theorem dX6_next_65 : decode cX6_next 65 = .ok (.iload 6, 2) := dk_21 6 (dk_at dksX6_next_2 19 rfl rfl)
theorem dX6_next_67 : decode cX6_next 67 = .ok (.invokestatic 102, 3) := dk_184 0 102 (dk_at dksX6_next_2 21 rfl rfl)
theorem dX6_next_70 : decode cX6_next 70 = .ok (.ifCond .eq 58, 3) := dk_153 0 58 (dk_at dksX6_next_3 0 rfl rfl)
theorem dX6_next_73 : decode cX6_next 73 = .ok (.iload_n 3, 1) := dk_29 (dk_at dksX6_next_3 3 rfl rfl)
theorem dX6_next_74 : decode cX6_next 74 = .ok (.bipush 6, 2) := dk_16 6 (dk_at dksX6_next_3 4 rfl rfl)
theorem dX6_next_76 : decode cX6_next 76 = .ok (.if_icmp .ge 19, 3) := dk_162 0 19 (dk_at dksX6_next_3 6 rfl rfl)
theorem dX6_next_79 : decode cX6_next 79 = .ok (.aload_n 0, 1) := dk_42 (dk_at dksX6_next_3 9 rfl rfl)
theorem dX6_next_80 : decode cX6_next 80 = .ok (.iload_n 3, 1) := dk_29 (dk_at dksX6_next_3 10 rfl rfl)
theorem dX6_next_81 : decode cX6_next 81 = .ok (.iload_n 1, 1) := dk_27 (dk_at dksX6_next_3 11 rfl rfl)
theorem dX6_next_82 : decode cX6_next 82 = .ok (.iload 4, 2) := dk_21 4 (dk_at dksX6_next_3 12 rfl rfl)
theorem dX6_next_84 : decode cX6_next 84 = .ok (.iload 6, 2) := dk_21 6 (dk_at dksX6_next_3 14 rfl rfl)
theorem dX6_next_86 : decode cX6_next 86 = .ok (.invokevirtual 167, 3) := dk_182 0 167 (dk_at dksX6_next_3 16 rfl rfl)
theorem dX6_next_89 : decode cX6_next 89 = .ok (.ifCond .eq 39, 3) := dk_153 0 39 (dk_at dksX6_next_3 19 rfl rfl)
theorem dX6_next_92 : decode cX6_next 92 = .ok (.goto 21, 3) := dk_167 0 21 (dk_at dksX6_next_4 0 rfl rfl)
theorem dX6_next_95 : decode cX6_next 95 = .ok (.aload_n 0, 1) := dk_42 (dk_at dksX6_next_4 3 rfl rfl)
theorem dX6_next_96 : decode cX6_next 96 = .ok (.iload_n 1, 1) := dk_27 (dk_at dksX6_next_4 4 rfl rfl)
theorem dX6_next_97 : decode cX6_next 97 = .ok (.iload 4, 2) := dk_21 4 (dk_at dksX6_next_4 5 rfl rfl)
theorem dX6_next_99 : decode cX6_next 99 = .ok (.iload 6, 2) := dk_21 6 (dk_at dksX6_next_4 7 rfl rfl)
theorem dX6_next_101 : decode cX6_next 101 = .ok (.aload_n 0, 1) := dk_42 (dk_at dksX6_next_4 9 rfl rfl)
theorem dX6_next_102 : decode cX6_next 102 = .ok (.iload 4, 2) := dk_21 4 (dk_at dksX6_next_4 10 rfl rfl)
theorem dX6_next_104 : decode cX6_next 104 = .ok (.invokevirtual 122, 3) := dk_182 0 122 (dk_at dksX6_next_4 12 rfl rfl)
theorem dX6_next_107 : decode cX6_next 107 = .ok (.invokevirtual 170, 3) := dk_182 0 170 (dk_at dksX6_next_4 15 rfl rfl)
theorem dX6_next_110 : decode cX6_next 110 = .ok (.ifCond .eq 18, 3) := dk_153 0 18 (dk_at dksX6_next_4 18 rfl rfl)
theorem dX6_next_113 : decode cX6_next 113 = .ok (.sipush 1000, 3) := dk_17 3 232 (dk_at dksX6_next_4 21 rfl rfl)
theorem dX6_next_116 : decode cX6_next 116 = .ok (.iload_n 3, 1) := dk_29 (dk_at dksX6_next_5 0 rfl rfl)
theorem dX6_next_117 : decode cX6_next 117 = .ok (.imul, 1) := dk_104 (dk_at dksX6_next_5 1 rfl rfl)
theorem dX6_next_118 : decode cX6_next 118 = .ok (.bipush 10, 2) := dk_16 10 (dk_at dksX6_next_5 2 rfl rfl)
theorem dX6_next_120 : decode cX6_next 120 = .ok (.iload 4, 2) := dk_21 4 (dk_at dksX6_next_5 4 rfl rfl)
theorem dX6_next_122 : decode cX6_next 122 = .ok (.imul, 1) := dk_104 (dk_at dksX6_next_5 6 rfl rfl)
theorem dX6_next_123 : decode cX6_next 123 = .ok (.iadd, 1) := dk_96 (dk_at dksX6_next_5 7 rfl rfl)
theorem dX6_next_124 : decode cX6_next 124 = .ok (.iload 6, 2) := dk_21 6 (dk_at dksX6_next_5 8 rfl rfl)
theorem dX6_next_126 : decode cX6_next 126 = .ok (.iadd, 1) := dk_96 (dk_at dksX6_next_5 10 rfl rfl)
theorem dX6_next_127 : decode cX6_next 127 = .ok (.ireturn, 1) := dk_172 (dk_at dksX6_next_5 11 rfl rfl)
theorem dX6_next_128 : decode cX6_next 128 = .ok (.iinc 6 1, 3) := dk_132 6 1 (dk_at dksX6_next_5 12 rfl rfl)
theorem dX6_next_131 : decode cX6_next 131 = .ok (.goto (-88), 3) := dk_167 255 168 (dk_at dksX6_next_5 15 rfl rfl)
theorem dX6_next_134 : decode cX6_next 134 = .ok (.iinc 4 1, 3) := dk_132 4 1 (dk_at dksX6_next_5 18 rfl rfl)
theorem dX6_next_137 : decode cX6_next 137 = .ok (.goto (-117), 3) := dk_167 255 139 (dk_at dksX6_next_5 21 rfl rfl)
theorem dX6_next_140 : decode cX6_next 140 = .ok (.iinc 3 1, 3) := dk_132 3 1 (dk_at dksX6_next_6 0 rfl rfl)
theorem dX6_next_143 : decode cX6_next 143 = .ok (.goto (-131), 3) := dk_167 255 125 (dk_at dksX6_next_6 3 rfl rfl)
theorem dX6_next_146 : decode cX6_next 146 = .ok (.iconst (-1), 1) := dk_2 (dk_at dksX6_next_6 6 rfl rfl)
theorem dX6_next_147 : decode cX6_next 147 = .ok (.ireturn, 1) := dk_172 (dk_at dksX6_next_6 7 rfl rfl)
abbrev cX6_step : ByteArray := prog_10_method_96_code
def yX6_step : MethodName := ⟨RX6, "step", "()I"⟩
def dkwX6_step_2 : List UInt8 := [16, 100, 112, 96, 92, 46, 4, 27, 16, 10, 112, 120, 2, 130, 126, 79, 27, 17, 3, 232, 108, 172]
abbrev dktX6_step_2 : List UInt8 := dkwX6_step_2 ++ []
def dkwX6_step_1 : List UInt8 := [4, 4, 182, 0, 210, 154, 0, 5, 3, 172, 42, 182, 0, 214, 42, 180, 0, 7, 16, 23, 27, 16, 10, 108]
abbrev dktX6_step_1 : List UInt8 := dkwX6_step_1 ++ dktX6_step_2
def dkwX6_step_0 : List UInt8 := [42, 3, 182, 0, 126, 42, 3, 16, 6, 182, 0, 173, 60, 42, 27, 2, 159, 0, 7, 4, 167, 0, 4, 3]
abbrev dktX6_step_0 : List UInt8 := dkwX6_step_0 ++ dktX6_step_1
theorem dksX6_step_0 : cX6_step.data.toList.drop 0 = dktX6_step_0 := by decide +kernel
theorem dksX6_step_1 : cX6_step.data.toList.drop 24 = dktX6_step_1 := dk_seg dksX6_step_0 24 rfl rfl
theorem dksX6_step_2 : cX6_step.data.toList.drop 48 = dktX6_step_2 := dk_seg dksX6_step_1 24 rfl rfl
theorem dX6_step_0 : decode cX6_step 0 = .ok (.aload_n 0, 1) := dk_42 (dk_at dksX6_step_0 0 rfl rfl)
theorem dX6_step_1 : decode cX6_step 1 = .ok (.iconst 0, 1) := dk_3 (dk_at dksX6_step_0 1 rfl rfl)
theorem dX6_step_2 : decode cX6_step 2 = .ok (.invokevirtual 126, 3) := dk_182 0 126 (dk_at dksX6_step_0 2 rfl rfl)
theorem dX6_step_5 : decode cX6_step 5 = .ok (.aload_n 0, 1) := dk_42 (dk_at dksX6_step_0 5 rfl rfl)
theorem dX6_step_6 : decode cX6_step 6 = .ok (.iconst 0, 1) := dk_3 (dk_at dksX6_step_0 6 rfl rfl)
theorem dX6_step_7 : decode cX6_step 7 = .ok (.bipush 6, 2) := dk_16 6 (dk_at dksX6_step_0 7 rfl rfl)
theorem dX6_step_9 : decode cX6_step 9 = .ok (.invokevirtual 173, 3) := dk_182 0 173 (dk_at dksX6_step_0 9 rfl rfl)
theorem dX6_step_12 : decode cX6_step 12 = .ok (.istore_n 1, 1) := dk_60 (dk_at dksX6_step_0 12 rfl rfl)
theorem dX6_step_13 : decode cX6_step 13 = .ok (.aload_n 0, 1) := dk_42 (dk_at dksX6_step_0 13 rfl rfl)
theorem dX6_step_14 : decode cX6_step 14 = .ok (.iload_n 1, 1) := dk_27 (dk_at dksX6_step_0 14 rfl rfl)
theorem dX6_step_15 : decode cX6_step 15 = .ok (.iconst (-1), 1) := dk_2 (dk_at dksX6_step_0 15 rfl rfl)
theorem dX6_step_16 : decode cX6_step 16 = .ok (.if_icmp .eq 7, 3) := dk_159 0 7 (dk_at dksX6_step_0 16 rfl rfl)
theorem dX6_step_19 : decode cX6_step 19 = .ok (.iconst 1, 1) := dk_4 (dk_at dksX6_step_0 19 rfl rfl)
theorem dX6_step_20 : decode cX6_step 20 = .ok (.goto 4, 3) := dk_167 0 4 (dk_at dksX6_step_0 20 rfl rfl)
theorem dX6_step_23 : decode cX6_step 23 = .ok (.iconst 0, 1) := dk_3 (dk_at dksX6_step_0 23 rfl rfl)
theorem dX6_step_24 : decode cX6_step 24 = .ok (.iconst 1, 1) := dk_4 (dk_at dksX6_step_1 0 rfl rfl)
theorem dX6_step_25 : decode cX6_step 25 = .ok (.iconst 1, 1) := dk_4 (dk_at dksX6_step_1 1 rfl rfl)
theorem dX6_step_26 : decode cX6_step 26 = .ok (.invokevirtual 210, 3) := dk_182 0 210 (dk_at dksX6_step_1 2 rfl rfl)
theorem dX6_step_29 : decode cX6_step 29 = .ok (.ifCond .ne 5, 3) := dk_154 0 5 (dk_at dksX6_step_1 5 rfl rfl)
theorem dX6_step_32 : decode cX6_step 32 = .ok (.iconst 0, 1) := dk_3 (dk_at dksX6_step_1 8 rfl rfl)
theorem dX6_step_33 : decode cX6_step 33 = .ok (.ireturn, 1) := dk_172 (dk_at dksX6_step_1 9 rfl rfl)
theorem dX6_step_34 : decode cX6_step 34 = .ok (.aload_n 0, 1) := dk_42 (dk_at dksX6_step_1 10 rfl rfl)
theorem dX6_step_35 : decode cX6_step 35 = .ok (.invokevirtual 214, 3) := dk_182 0 214 (dk_at dksX6_step_1 11 rfl rfl)
theorem dX6_step_38 : decode cX6_step 38 = .ok (.aload_n 0, 1) := dk_42 (dk_at dksX6_step_1 14 rfl rfl)
theorem dX6_step_39 : decode cX6_step 39 = .ok (.getfield 7, 3) := dk_180 0 7 (dk_at dksX6_step_1 15 rfl rfl)
theorem dX6_step_42 : decode cX6_step 42 = .ok (.bipush 23, 2) := dk_16 23 (dk_at dksX6_step_1 18 rfl rfl)
theorem dX6_step_44 : decode cX6_step 44 = .ok (.iload_n 1, 1) := dk_27 (dk_at dksX6_step_1 20 rfl rfl)
theorem dX6_step_45 : decode cX6_step 45 = .ok (.bipush 10, 2) := dk_16 10 (dk_at dksX6_step_1 21 rfl rfl)
theorem dX6_step_47 : decode cX6_step 47 = .ok (.idiv, 1) := dk_108 (dk_at dksX6_step_1 23 rfl rfl)
theorem dX6_step_48 : decode cX6_step 48 = .ok (.bipush 100, 2) := dk_16 100 (dk_at dksX6_step_2 0 rfl rfl)
theorem dX6_step_50 : decode cX6_step 50 = .ok (.irem, 1) := dk_112 (dk_at dksX6_step_2 2 rfl rfl)
theorem dX6_step_51 : decode cX6_step 51 = .ok (.iadd, 1) := dk_96 (dk_at dksX6_step_2 3 rfl rfl)
theorem dX6_step_52 : decode cX6_step 52 = .ok (.dup2, 1) := dk_92 (dk_at dksX6_step_2 4 rfl rfl)
theorem dX6_step_53 : decode cX6_step 53 = .ok (.iaload, 1) := dk_46 (dk_at dksX6_step_2 5 rfl rfl)
theorem dX6_step_54 : decode cX6_step 54 = .ok (.iconst 1, 1) := dk_4 (dk_at dksX6_step_2 6 rfl rfl)
theorem dX6_step_55 : decode cX6_step 55 = .ok (.iload_n 1, 1) := dk_27 (dk_at dksX6_step_2 7 rfl rfl)
theorem dX6_step_56 : decode cX6_step 56 = .ok (.bipush 10, 2) := dk_16 10 (dk_at dksX6_step_2 8 rfl rfl)
theorem dX6_step_58 : decode cX6_step 58 = .ok (.irem, 1) := dk_112 (dk_at dksX6_step_2 10 rfl rfl)
theorem dX6_step_59 : decode cX6_step 59 = .ok (.ishl, 1) := dk_120 (dk_at dksX6_step_2 11 rfl rfl)
theorem dX6_step_60 : decode cX6_step 60 = .ok (.iconst (-1), 1) := dk_2 (dk_at dksX6_step_2 12 rfl rfl)
theorem dX6_step_61 : decode cX6_step 61 = .ok (.ixor, 1) := dk_130 (dk_at dksX6_step_2 13 rfl rfl)
theorem dX6_step_62 : decode cX6_step 62 = .ok (.iand, 1) := dk_126 (dk_at dksX6_step_2 14 rfl rfl)
theorem dX6_step_63 : decode cX6_step 63 = .ok (.iastore, 1) := dk_79 (dk_at dksX6_step_2 15 rfl rfl)
theorem dX6_step_64 : decode cX6_step 64 = .ok (.iload_n 1, 1) := dk_27 (dk_at dksX6_step_2 16 rfl rfl)
theorem dX6_step_65 : decode cX6_step 65 = .ok (.sipush 1000, 3) := dk_17 3 232 (dk_at dksX6_step_2 17 rfl rfl)
theorem dX6_step_68 : decode cX6_step 68 = .ok (.idiv, 1) := dk_108 (dk_at dksX6_step_2 20 rfl rfl)
theorem dX6_step_69 : decode cX6_step 69 = .ok (.ireturn, 1) := dk_172 (dk_at dksX6_step_2 21 rfl rfl)
abbrev cX6_stepAll : ByteArray := prog_10_method_97_code
def yX6_stepAll : MethodName := ⟨RX6, "stepAll", "(I)I"⟩
def dkwX6_stepAll_2 : List UInt8 := [180, 0, 27, 16, 25, 29, 96, 46, 79, 132, 3, 1, 167, 255, 227, 28, 172]
abbrev dktX6_stepAll_2 : List UInt8 := dkwX6_stepAll_2 ++ []
def dkwX6_stepAll_1 : List UInt8 := [182, 1, 16, 61, 3, 62, 29, 42, 182, 0, 66, 162, 0, 27, 42, 180, 0, 7, 16, 23, 29, 96, 42]
abbrev dktX6_stepAll_1 : List UInt8 := dkwX6_stepAll_1 ++ dktX6_stepAll_2
def dkwX6_stepAll_0 : List UInt8 := [42, 27, 4, 16, 6, 184, 0, 70, 4, 4, 182, 0, 210, 154, 0, 5, 3, 172, 42, 182, 0, 214, 42, 27]
abbrev dktX6_stepAll_0 : List UInt8 := dkwX6_stepAll_0 ++ dktX6_stepAll_1
theorem dksX6_stepAll_0 : cX6_stepAll.data.toList.drop 0 = dktX6_stepAll_0 := by decide +kernel
theorem dksX6_stepAll_1 : cX6_stepAll.data.toList.drop 24 = dktX6_stepAll_1 := dk_seg dksX6_stepAll_0 24 rfl rfl
theorem dksX6_stepAll_2 : cX6_stepAll.data.toList.drop 47 = dktX6_stepAll_2 := dk_seg dksX6_stepAll_1 23 rfl rfl
theorem dX6_stepAll_0 : decode cX6_stepAll 0 = .ok (.aload_n 0, 1) := dk_42 (dk_at dksX6_stepAll_0 0 rfl rfl)
theorem dX6_stepAll_1 : decode cX6_stepAll 1 = .ok (.iload_n 1, 1) := dk_27 (dk_at dksX6_stepAll_0 1 rfl rfl)
theorem dX6_stepAll_2 : decode cX6_stepAll 2 = .ok (.iconst 1, 1) := dk_4 (dk_at dksX6_stepAll_0 2 rfl rfl)
theorem dX6_stepAll_3 : decode cX6_stepAll 3 = .ok (.bipush 6, 2) := dk_16 6 (dk_at dksX6_stepAll_0 3 rfl rfl)
theorem dX6_stepAll_5 : decode cX6_stepAll 5 = .ok (.invokestatic 70, 3) := dk_184 0 70 (dk_at dksX6_stepAll_0 5 rfl rfl)
theorem dX6_stepAll_8 : decode cX6_stepAll 8 = .ok (.iconst 1, 1) := dk_4 (dk_at dksX6_stepAll_0 8 rfl rfl)
theorem dX6_stepAll_9 : decode cX6_stepAll 9 = .ok (.iconst 1, 1) := dk_4 (dk_at dksX6_stepAll_0 9 rfl rfl)
theorem dX6_stepAll_10 : decode cX6_stepAll 10 = .ok (.invokevirtual 210, 3) := dk_182 0 210 (dk_at dksX6_stepAll_0 10 rfl rfl)
theorem dX6_stepAll_13 : decode cX6_stepAll 13 = .ok (.ifCond .ne 5, 3) := dk_154 0 5 (dk_at dksX6_stepAll_0 13 rfl rfl)
theorem dX6_stepAll_16 : decode cX6_stepAll 16 = .ok (.iconst 0, 1) := dk_3 (dk_at dksX6_stepAll_0 16 rfl rfl)
theorem dX6_stepAll_17 : decode cX6_stepAll 17 = .ok (.ireturn, 1) := dk_172 (dk_at dksX6_stepAll_0 17 rfl rfl)
theorem dX6_stepAll_18 : decode cX6_stepAll 18 = .ok (.aload_n 0, 1) := dk_42 (dk_at dksX6_stepAll_0 18 rfl rfl)
theorem dX6_stepAll_19 : decode cX6_stepAll 19 = .ok (.invokevirtual 214, 3) := dk_182 0 214 (dk_at dksX6_stepAll_0 19 rfl rfl)
theorem dX6_stepAll_22 : decode cX6_stepAll 22 = .ok (.aload_n 0, 1) := dk_42 (dk_at dksX6_stepAll_0 22 rfl rfl)
theorem dX6_stepAll_23 : decode cX6_stepAll 23 = .ok (.iload_n 1, 1) := dk_27 (dk_at dksX6_stepAll_0 23 rfl rfl)
theorem dX6_stepAll_24 : decode cX6_stepAll 24 = .ok (.invokevirtual 272, 3) := dk_182 1 16 (dk_at dksX6_stepAll_1 0 rfl rfl)
theorem dX6_stepAll_27 : decode cX6_stepAll 27 = .ok (.istore_n 2, 1) := dk_61 (dk_at dksX6_stepAll_1 3 rfl rfl)
theorem dX6_stepAll_28 : decode cX6_stepAll 28 = .ok (.iconst 0, 1) := dk_3 (dk_at dksX6_stepAll_1 4 rfl rfl)
theorem dX6_stepAll_29 : decode cX6_stepAll 29 = .ok (.istore_n 3, 1) := dk_62 (dk_at dksX6_stepAll_1 5 rfl rfl)
theorem dX6_stepAll_30 : decode cX6_stepAll 30 = .ok (.iload_n 3, 1) := dk_29 (dk_at dksX6_stepAll_1 6 rfl rfl)
theorem dX6_stepAll_31 : decode cX6_stepAll 31 = .ok (.aload_n 0, 1) := dk_42 (dk_at dksX6_stepAll_1 7 rfl rfl)
theorem dX6_stepAll_32 : decode cX6_stepAll 32 = .ok (.invokevirtual 66, 3) := dk_182 0 66 (dk_at dksX6_stepAll_1 8 rfl rfl)
theorem dX6_stepAll_35 : decode cX6_stepAll 35 = .ok (.if_icmp .ge 27, 3) := dk_162 0 27 (dk_at dksX6_stepAll_1 11 rfl rfl)
theorem dX6_stepAll_38 : decode cX6_stepAll 38 = .ok (.aload_n 0, 1) := dk_42 (dk_at dksX6_stepAll_1 14 rfl rfl)
theorem dX6_stepAll_39 : decode cX6_stepAll 39 = .ok (.getfield 7, 3) := dk_180 0 7 (dk_at dksX6_stepAll_1 15 rfl rfl)
theorem dX6_stepAll_42 : decode cX6_stepAll 42 = .ok (.bipush 23, 2) := dk_16 23 (dk_at dksX6_stepAll_1 18 rfl rfl)
theorem dX6_stepAll_44 : decode cX6_stepAll 44 = .ok (.iload_n 3, 1) := dk_29 (dk_at dksX6_stepAll_1 20 rfl rfl)
theorem dX6_stepAll_45 : decode cX6_stepAll 45 = .ok (.iadd, 1) := dk_96 (dk_at dksX6_stepAll_1 21 rfl rfl)
theorem dX6_stepAll_46 : decode cX6_stepAll 46 = .ok (.aload_n 0, 1) := dk_42 (dk_at dksX6_stepAll_1 22 rfl rfl)
theorem dX6_stepAll_47 : decode cX6_stepAll 47 = .ok (.getfield 27, 3) := dk_180 0 27 (dk_at dksX6_stepAll_2 0 rfl rfl)
theorem dX6_stepAll_50 : decode cX6_stepAll 50 = .ok (.bipush 25, 2) := dk_16 25 (dk_at dksX6_stepAll_2 3 rfl rfl)
theorem dX6_stepAll_52 : decode cX6_stepAll 52 = .ok (.iload_n 3, 1) := dk_29 (dk_at dksX6_stepAll_2 5 rfl rfl)
theorem dX6_stepAll_53 : decode cX6_stepAll 53 = .ok (.iadd, 1) := dk_96 (dk_at dksX6_stepAll_2 6 rfl rfl)
theorem dX6_stepAll_54 : decode cX6_stepAll 54 = .ok (.iaload, 1) := dk_46 (dk_at dksX6_stepAll_2 7 rfl rfl)
theorem dX6_stepAll_55 : decode cX6_stepAll 55 = .ok (.iastore, 1) := dk_79 (dk_at dksX6_stepAll_2 8 rfl rfl)
theorem dX6_stepAll_56 : decode cX6_stepAll 56 = .ok (.iinc 3 1, 3) := dk_132 3 1 (dk_at dksX6_stepAll_2 9 rfl rfl)
theorem dX6_stepAll_59 : decode cX6_stepAll 59 = .ok (.goto (-29), 3) := dk_167 255 227 (dk_at dksX6_stepAll_2 12 rfl rfl)
theorem dX6_stepAll_62 : decode cX6_stepAll 62 = .ok (.iload_n 2, 1) := dk_28 (dk_at dksX6_stepAll_2 15 rfl rfl)
theorem dX6_stepAll_63 : decode cX6_stepAll 63 = .ok (.ireturn, 1) := dk_172 (dk_at dksX6_stepAll_2 16 rfl rfl)
abbrev cX6_steps : ByteArray := prog_10_method_49_code
def yX6_steps : MethodName := ⟨RX6, "steps", "(I)I"⟩
def dkwX6_steps_1 : List UInt8 := [29, 182, 0, 176, 132, 2, 1, 42, 16, 25, 27, 182, 0, 173, 62, 167, 255, 233, 28, 172]
abbrev dktX6_steps_1 : List UInt8 := dkwX6_steps_1 ++ []
def dkwX6_steps_0 : List UInt8 := [42, 16, 25, 182, 0, 126, 3, 61, 42, 16, 25, 27, 182, 0, 173, 62, 29, 2, 159, 0, 24, 42, 16, 25]
abbrev dktX6_steps_0 : List UInt8 := dkwX6_steps_0 ++ dktX6_steps_1
theorem dksX6_steps_0 : cX6_steps.data.toList.drop 0 = dktX6_steps_0 := by decide +kernel
theorem dksX6_steps_1 : cX6_steps.data.toList.drop 24 = dktX6_steps_1 := dk_seg dksX6_steps_0 24 rfl rfl
theorem dX6_steps_0 : decode cX6_steps 0 = .ok (.aload_n 0, 1) := dk_42 (dk_at dksX6_steps_0 0 rfl rfl)
theorem dX6_steps_1 : decode cX6_steps 1 = .ok (.bipush 25, 2) := dk_16 25 (dk_at dksX6_steps_0 1 rfl rfl)
theorem dX6_steps_3 : decode cX6_steps 3 = .ok (.invokevirtual 126, 3) := dk_182 0 126 (dk_at dksX6_steps_0 3 rfl rfl)
theorem dX6_steps_6 : decode cX6_steps 6 = .ok (.iconst 0, 1) := dk_3 (dk_at dksX6_steps_0 6 rfl rfl)
theorem dX6_steps_7 : decode cX6_steps 7 = .ok (.istore_n 2, 1) := dk_61 (dk_at dksX6_steps_0 7 rfl rfl)
theorem dX6_steps_8 : decode cX6_steps 8 = .ok (.aload_n 0, 1) := dk_42 (dk_at dksX6_steps_0 8 rfl rfl)
theorem dX6_steps_9 : decode cX6_steps 9 = .ok (.bipush 25, 2) := dk_16 25 (dk_at dksX6_steps_0 9 rfl rfl)
theorem dX6_steps_11 : decode cX6_steps 11 = .ok (.iload_n 1, 1) := dk_27 (dk_at dksX6_steps_0 11 rfl rfl)
theorem dX6_steps_12 : decode cX6_steps 12 = .ok (.invokevirtual 173, 3) := dk_182 0 173 (dk_at dksX6_steps_0 12 rfl rfl)
theorem dX6_steps_15 : decode cX6_steps 15 = .ok (.istore_n 3, 1) := dk_62 (dk_at dksX6_steps_0 15 rfl rfl)
theorem dX6_steps_16 : decode cX6_steps 16 = .ok (.iload_n 3, 1) := dk_29 (dk_at dksX6_steps_0 16 rfl rfl)
theorem dX6_steps_17 : decode cX6_steps 17 = .ok (.iconst (-1), 1) := dk_2 (dk_at dksX6_steps_0 17 rfl rfl)
theorem dX6_steps_18 : decode cX6_steps 18 = .ok (.if_icmp .eq 24, 3) := dk_159 0 24 (dk_at dksX6_steps_0 18 rfl rfl)
theorem dX6_steps_21 : decode cX6_steps 21 = .ok (.aload_n 0, 1) := dk_42 (dk_at dksX6_steps_0 21 rfl rfl)
theorem dX6_steps_22 : decode cX6_steps 22 = .ok (.bipush 25, 2) := dk_16 25 (dk_at dksX6_steps_0 22 rfl rfl)
theorem dX6_steps_24 : decode cX6_steps 24 = .ok (.iload_n 3, 1) := dk_29 (dk_at dksX6_steps_1 0 rfl rfl)
theorem dX6_steps_25 : decode cX6_steps 25 = .ok (.invokevirtual 176, 3) := dk_182 0 176 (dk_at dksX6_steps_1 1 rfl rfl)
theorem dX6_steps_28 : decode cX6_steps 28 = .ok (.iinc 2 1, 3) := dk_132 2 1 (dk_at dksX6_steps_1 4 rfl rfl)
theorem dX6_steps_31 : decode cX6_steps 31 = .ok (.aload_n 0, 1) := dk_42 (dk_at dksX6_steps_1 7 rfl rfl)
theorem dX6_steps_32 : decode cX6_steps 32 = .ok (.bipush 25, 2) := dk_16 25 (dk_at dksX6_steps_1 8 rfl rfl)
theorem dX6_steps_34 : decode cX6_steps 34 = .ok (.iload_n 1, 1) := dk_27 (dk_at dksX6_steps_1 10 rfl rfl)
theorem dX6_steps_35 : decode cX6_steps 35 = .ok (.invokevirtual 173, 3) := dk_182 0 173 (dk_at dksX6_steps_1 11 rfl rfl)
theorem dX6_steps_38 : decode cX6_steps 38 = .ok (.istore_n 3, 1) := dk_62 (dk_at dksX6_steps_1 14 rfl rfl)
theorem dX6_steps_39 : decode cX6_steps 39 = .ok (.goto (-23), 3) := dk_167 255 233 (dk_at dksX6_steps_1 15 rfl rfl)
theorem dX6_steps_42 : decode cX6_steps 42 = .ok (.iload_n 2, 1) := dk_28 (dk_at dksX6_steps_1 18 rfl rfl)
theorem dX6_steps_43 : decode cX6_steps 43 = .ok (.ireturn, 1) := dk_172 (dk_at dksX6_steps_1 19 rfl rfl)
abbrev cX6_crosses : ByteArray := prog_10_method_48_code
def yX6_crosses : MethodName := ⟨RX6, "crosses", "(II)V"⟩
def dkwX6_crosses_1 : List UInt8 := [79, 177]
abbrev dktX6_crosses_1 : List UInt8 := dkwX6_crosses_1 ++ []
def dkwX6_crosses_0 : List UInt8 := [42, 180, 0, 27, 27, 28, 16, 10, 108, 16, 100, 112, 96, 92, 46, 4, 28, 16, 10, 112, 120, 2, 130, 126]
abbrev dktX6_crosses_0 : List UInt8 := dkwX6_crosses_0 ++ dktX6_crosses_1
theorem dksX6_crosses_0 : cX6_crosses.data.toList.drop 0 = dktX6_crosses_0 := by decide +kernel
theorem dksX6_crosses_1 : cX6_crosses.data.toList.drop 24 = dktX6_crosses_1 := dk_seg dksX6_crosses_0 24 rfl rfl
theorem dX6_crosses_0 : decode cX6_crosses 0 = .ok (.aload_n 0, 1) := dk_42 (dk_at dksX6_crosses_0 0 rfl rfl)
theorem dX6_crosses_1 : decode cX6_crosses 1 = .ok (.getfield 27, 3) := dk_180 0 27 (dk_at dksX6_crosses_0 1 rfl rfl)
theorem dX6_crosses_4 : decode cX6_crosses 4 = .ok (.iload_n 1, 1) := dk_27 (dk_at dksX6_crosses_0 4 rfl rfl)
theorem dX6_crosses_5 : decode cX6_crosses 5 = .ok (.iload_n 2, 1) := dk_28 (dk_at dksX6_crosses_0 5 rfl rfl)
theorem dX6_crosses_6 : decode cX6_crosses 6 = .ok (.bipush 10, 2) := dk_16 10 (dk_at dksX6_crosses_0 6 rfl rfl)
theorem dX6_crosses_8 : decode cX6_crosses 8 = .ok (.idiv, 1) := dk_108 (dk_at dksX6_crosses_0 8 rfl rfl)
theorem dX6_crosses_9 : decode cX6_crosses 9 = .ok (.bipush 100, 2) := dk_16 100 (dk_at dksX6_crosses_0 9 rfl rfl)
theorem dX6_crosses_11 : decode cX6_crosses 11 = .ok (.irem, 1) := dk_112 (dk_at dksX6_crosses_0 11 rfl rfl)
theorem dX6_crosses_12 : decode cX6_crosses 12 = .ok (.iadd, 1) := dk_96 (dk_at dksX6_crosses_0 12 rfl rfl)
theorem dX6_crosses_13 : decode cX6_crosses 13 = .ok (.dup2, 1) := dk_92 (dk_at dksX6_crosses_0 13 rfl rfl)
theorem dX6_crosses_14 : decode cX6_crosses 14 = .ok (.iaload, 1) := dk_46 (dk_at dksX6_crosses_0 14 rfl rfl)
theorem dX6_crosses_15 : decode cX6_crosses 15 = .ok (.iconst 1, 1) := dk_4 (dk_at dksX6_crosses_0 15 rfl rfl)
theorem dX6_crosses_16 : decode cX6_crosses 16 = .ok (.iload_n 2, 1) := dk_28 (dk_at dksX6_crosses_0 16 rfl rfl)
theorem dX6_crosses_17 : decode cX6_crosses 17 = .ok (.bipush 10, 2) := dk_16 10 (dk_at dksX6_crosses_0 17 rfl rfl)
theorem dX6_crosses_19 : decode cX6_crosses 19 = .ok (.irem, 1) := dk_112 (dk_at dksX6_crosses_0 19 rfl rfl)
theorem dX6_crosses_20 : decode cX6_crosses 20 = .ok (.ishl, 1) := dk_120 (dk_at dksX6_crosses_0 20 rfl rfl)
theorem dX6_crosses_21 : decode cX6_crosses 21 = .ok (.iconst (-1), 1) := dk_2 (dk_at dksX6_crosses_0 21 rfl rfl)
theorem dX6_crosses_22 : decode cX6_crosses 22 = .ok (.ixor, 1) := dk_130 (dk_at dksX6_crosses_0 22 rfl rfl)
theorem dX6_crosses_23 : decode cX6_crosses 23 = .ok (.iand, 1) := dk_126 (dk_at dksX6_crosses_0 23 rfl rfl)
theorem dX6_crosses_24 : decode cX6_crosses 24 = .ok (.iastore, 1) := dk_79 (dk_at dksX6_crosses_1 0 rfl rfl)
theorem dX6_crosses_25 : decode cX6_crosses 25 = .ok (.return_, 1) := dk_177 (dk_at dksX6_crosses_1 1 rfl rfl)
abbrev cX6_stepsUpTo : ByteArray := prog_10_method_98_code
def yX6_stepsUpTo : MethodName := ⟨RX6, "stepsUpTo", "(I)I"⟩
def dkwX6_stepsUpTo_1 : List UInt8 := [3, 172]
abbrev dktX6_stepsUpTo_1 : List UInt8 := dkwX6_stepsUpTo_1 ++ []
def dkwX6_stepsUpTo_0 : List UInt8 := [42, 27, 4, 16, 6, 184, 0, 70, 4, 4, 182, 0, 210, 153, 0, 11, 42, 27, 182, 1, 16, 167, 0, 4]
abbrev dktX6_stepsUpTo_0 : List UInt8 := dkwX6_stepsUpTo_0 ++ dktX6_stepsUpTo_1
theorem dksX6_stepsUpTo_0 : cX6_stepsUpTo.data.toList.drop 0 = dktX6_stepsUpTo_0 := by decide +kernel
theorem dksX6_stepsUpTo_1 : cX6_stepsUpTo.data.toList.drop 24 = dktX6_stepsUpTo_1 := dk_seg dksX6_stepsUpTo_0 24 rfl rfl
theorem dX6_stepsUpTo_0 : decode cX6_stepsUpTo 0 = .ok (.aload_n 0, 1) := dk_42 (dk_at dksX6_stepsUpTo_0 0 rfl rfl)
theorem dX6_stepsUpTo_1 : decode cX6_stepsUpTo 1 = .ok (.iload_n 1, 1) := dk_27 (dk_at dksX6_stepsUpTo_0 1 rfl rfl)
theorem dX6_stepsUpTo_2 : decode cX6_stepsUpTo 2 = .ok (.iconst 1, 1) := dk_4 (dk_at dksX6_stepsUpTo_0 2 rfl rfl)
theorem dX6_stepsUpTo_3 : decode cX6_stepsUpTo 3 = .ok (.bipush 6, 2) := dk_16 6 (dk_at dksX6_stepsUpTo_0 3 rfl rfl)
theorem dX6_stepsUpTo_5 : decode cX6_stepsUpTo 5 = .ok (.invokestatic 70, 3) := dk_184 0 70 (dk_at dksX6_stepsUpTo_0 5 rfl rfl)
theorem dX6_stepsUpTo_8 : decode cX6_stepsUpTo 8 = .ok (.iconst 1, 1) := dk_4 (dk_at dksX6_stepsUpTo_0 8 rfl rfl)
theorem dX6_stepsUpTo_9 : decode cX6_stepsUpTo 9 = .ok (.iconst 1, 1) := dk_4 (dk_at dksX6_stepsUpTo_0 9 rfl rfl)
theorem dX6_stepsUpTo_10 : decode cX6_stepsUpTo 10 = .ok (.invokevirtual 210, 3) := dk_182 0 210 (dk_at dksX6_stepsUpTo_0 10 rfl rfl)
theorem dX6_stepsUpTo_13 : decode cX6_stepsUpTo 13 = .ok (.ifCond .eq 11, 3) := dk_153 0 11 (dk_at dksX6_stepsUpTo_0 13 rfl rfl)
theorem dX6_stepsUpTo_16 : decode cX6_stepsUpTo 16 = .ok (.aload_n 0, 1) := dk_42 (dk_at dksX6_stepsUpTo_0 16 rfl rfl)
theorem dX6_stepsUpTo_17 : decode cX6_stepsUpTo 17 = .ok (.iload_n 1, 1) := dk_27 (dk_at dksX6_stepsUpTo_0 17 rfl rfl)
theorem dX6_stepsUpTo_18 : decode cX6_stepsUpTo 18 = .ok (.invokevirtual 272, 3) := dk_182 1 16 (dk_at dksX6_stepsUpTo_0 18 rfl rfl)
theorem dX6_stepsUpTo_21 : decode cX6_stepsUpTo 21 = .ok (.goto 4, 3) := dk_167 0 4 (dk_at dksX6_stepsUpTo_0 21 rfl rfl)
theorem dX6_stepsUpTo_24 : decode cX6_stepsUpTo 24 = .ok (.iconst 0, 1) := dk_3 (dk_at dksX6_stepsUpTo_1 0 rfl rfl)
theorem dX6_stepsUpTo_25 : decode cX6_stepsUpTo 25 = .ok (.ireturn, 1) := dk_172 (dk_at dksX6_stepsUpTo_1 1 rfl rfl)
abbrev cX6_hardness : ByteArray := prog_10_method_99_code
def yX6_hardness : MethodName := ⟨RX6, "hardness", "()I"⟩
def dkwX6_hardness_2 : List UInt8 := [132, 1, 1, 167, 255, 230, 16, 7, 172]
abbrev dktX6_hardness_2 : List UInt8 := dkwX6_hardness_2 ++ []
def dkwX6_hardness_1 : List UInt8 := [16, 7, 162, 0, 26, 42, 27, 182, 1, 16, 61, 42, 16, 25, 182, 1, 7, 153, 0, 5, 27, 172]
abbrev dktX6_hardness_1 : List UInt8 := dkwX6_hardness_1 ++ dktX6_hardness_2
def dkwX6_hardness_0 : List UInt8 := [42, 3, 181, 0, 55, 42, 3, 182, 0, 126, 42, 3, 182, 1, 7, 153, 0, 5, 3, 172, 4, 60, 27]
abbrev dktX6_hardness_0 : List UInt8 := dkwX6_hardness_0 ++ dktX6_hardness_1
theorem dksX6_hardness_0 : cX6_hardness.data.toList.drop 0 = dktX6_hardness_0 := by decide +kernel
theorem dksX6_hardness_1 : cX6_hardness.data.toList.drop 23 = dktX6_hardness_1 := dk_seg dksX6_hardness_0 23 rfl rfl
theorem dksX6_hardness_2 : cX6_hardness.data.toList.drop 45 = dktX6_hardness_2 := dk_seg dksX6_hardness_1 22 rfl rfl
theorem dX6_hardness_0 : decode cX6_hardness 0 = .ok (.aload_n 0, 1) := dk_42 (dk_at dksX6_hardness_0 0 rfl rfl)
theorem dX6_hardness_1 : decode cX6_hardness 1 = .ok (.iconst 0, 1) := dk_3 (dk_at dksX6_hardness_0 1 rfl rfl)
theorem dX6_hardness_2 : decode cX6_hardness 2 = .ok (.putfield 55, 3) := dk_181 0 55 (dk_at dksX6_hardness_0 2 rfl rfl)
theorem dX6_hardness_5 : decode cX6_hardness 5 = .ok (.aload_n 0, 1) := dk_42 (dk_at dksX6_hardness_0 5 rfl rfl)
theorem dX6_hardness_6 : decode cX6_hardness 6 = .ok (.iconst 0, 1) := dk_3 (dk_at dksX6_hardness_0 6 rfl rfl)
theorem dX6_hardness_7 : decode cX6_hardness 7 = .ok (.invokevirtual 126, 3) := dk_182 0 126 (dk_at dksX6_hardness_0 7 rfl rfl)
theorem dX6_hardness_10 : decode cX6_hardness 10 = .ok (.aload_n 0, 1) := dk_42 (dk_at dksX6_hardness_0 10 rfl rfl)
theorem dX6_hardness_11 : decode cX6_hardness 11 = .ok (.iconst 0, 1) := dk_3 (dk_at dksX6_hardness_0 11 rfl rfl)
theorem dX6_hardness_12 : decode cX6_hardness 12 = .ok (.invokevirtual 263, 3) := dk_182 1 7 (dk_at dksX6_hardness_0 12 rfl rfl)
theorem dX6_hardness_15 : decode cX6_hardness 15 = .ok (.ifCond .eq 5, 3) := dk_153 0 5 (dk_at dksX6_hardness_0 15 rfl rfl)
theorem dX6_hardness_18 : decode cX6_hardness 18 = .ok (.iconst 0, 1) := dk_3 (dk_at dksX6_hardness_0 18 rfl rfl)
theorem dX6_hardness_19 : decode cX6_hardness 19 = .ok (.ireturn, 1) := dk_172 (dk_at dksX6_hardness_0 19 rfl rfl)
theorem dX6_hardness_20 : decode cX6_hardness 20 = .ok (.iconst 1, 1) := dk_4 (dk_at dksX6_hardness_0 20 rfl rfl)
theorem dX6_hardness_21 : decode cX6_hardness 21 = .ok (.istore_n 1, 1) := dk_60 (dk_at dksX6_hardness_0 21 rfl rfl)
theorem dX6_hardness_22 : decode cX6_hardness 22 = .ok (.iload_n 1, 1) := dk_27 (dk_at dksX6_hardness_0 22 rfl rfl)
theorem dX6_hardness_23 : decode cX6_hardness 23 = .ok (.bipush 7, 2) := dk_16 7 (dk_at dksX6_hardness_1 0 rfl rfl)
theorem dX6_hardness_25 : decode cX6_hardness 25 = .ok (.if_icmp .ge 26, 3) := dk_162 0 26 (dk_at dksX6_hardness_1 2 rfl rfl)
theorem dX6_hardness_28 : decode cX6_hardness 28 = .ok (.aload_n 0, 1) := dk_42 (dk_at dksX6_hardness_1 5 rfl rfl)
theorem dX6_hardness_29 : decode cX6_hardness 29 = .ok (.iload_n 1, 1) := dk_27 (dk_at dksX6_hardness_1 6 rfl rfl)
theorem dX6_hardness_30 : decode cX6_hardness 30 = .ok (.invokevirtual 272, 3) := dk_182 1 16 (dk_at dksX6_hardness_1 7 rfl rfl)
theorem dX6_hardness_33 : decode cX6_hardness 33 = .ok (.istore_n 2, 1) := dk_61 (dk_at dksX6_hardness_1 10 rfl rfl)
theorem dX6_hardness_34 : decode cX6_hardness 34 = .ok (.aload_n 0, 1) := dk_42 (dk_at dksX6_hardness_1 11 rfl rfl)
theorem dX6_hardness_35 : decode cX6_hardness 35 = .ok (.bipush 25, 2) := dk_16 25 (dk_at dksX6_hardness_1 12 rfl rfl)
theorem dX6_hardness_37 : decode cX6_hardness 37 = .ok (.invokevirtual 263, 3) := dk_182 1 7 (dk_at dksX6_hardness_1 14 rfl rfl)
theorem dX6_hardness_40 : decode cX6_hardness 40 = .ok (.ifCond .eq 5, 3) := dk_153 0 5 (dk_at dksX6_hardness_1 17 rfl rfl)
theorem dX6_hardness_43 : decode cX6_hardness 43 = .ok (.iload_n 1, 1) := dk_27 (dk_at dksX6_hardness_1 20 rfl rfl)
theorem dX6_hardness_44 : decode cX6_hardness 44 = .ok (.ireturn, 1) := dk_172 (dk_at dksX6_hardness_1 21 rfl rfl)
theorem dX6_hardness_45 : decode cX6_hardness 45 = .ok (.iinc 1 1, 3) := dk_132 1 1 (dk_at dksX6_hardness_2 0 rfl rfl)
theorem dX6_hardness_48 : decode cX6_hardness 48 = .ok (.goto (-26), 3) := dk_167 255 230 (dk_at dksX6_hardness_2 3 rfl rfl)
theorem dX6_hardness_51 : decode cX6_hardness 51 = .ok (.bipush 7, 2) := dk_16 7 (dk_at dksX6_hardness_2 6 rfl rfl)
theorem dX6_hardness_53 : decode cX6_hardness 53 = .ok (.ireturn, 1) := dk_172 (dk_at dksX6_hardness_2 8 rfl rfl)
abbrev cX6_solutionCount : ByteArray := prog_10_method_100_code
def yX6_solutionCount : MethodName := ⟨RX6, "solutionCount", "()I"⟩
def dkwX6_solutionCount_0 : List UInt8 := [42, 42, 17, 0, 200, 3, 182, 1, 19, 182, 0, 242, 172]
abbrev dktX6_solutionCount_0 : List UInt8 := dkwX6_solutionCount_0 ++ []
theorem dksX6_solutionCount_0 : cX6_solutionCount.data.toList.drop 0 = dktX6_solutionCount_0 := by decide +kernel
theorem dX6_solutionCount_0 : decode cX6_solutionCount 0 = .ok (.aload_n 0, 1) := dk_42 (dk_at dksX6_solutionCount_0 0 rfl rfl)
theorem dX6_solutionCount_1 : decode cX6_solutionCount 1 = .ok (.aload_n 0, 1) := dk_42 (dk_at dksX6_solutionCount_0 1 rfl rfl)
theorem dX6_solutionCount_2 : decode cX6_solutionCount 2 = .ok (.sipush 200, 3) := dk_17 0 200 (dk_at dksX6_solutionCount_0 2 rfl rfl)
theorem dX6_solutionCount_5 : decode cX6_solutionCount 5 = .ok (.iconst 0, 1) := dk_3 (dk_at dksX6_solutionCount_0 5 rfl rfl)
theorem dX6_solutionCount_6 : decode cX6_solutionCount 6 = .ok (.invokevirtual 275, 3) := dk_182 1 19 (dk_at dksX6_solutionCount_0 6 rfl rfl)
theorem dX6_solutionCount_9 : decode cX6_solutionCount 9 = .ok (.invokevirtual 242, 3) := dk_182 0 242 (dk_at dksX6_solutionCount_0 9 rfl rfl)
theorem dX6_solutionCount_12 : decode cX6_solutionCount 12 = .ok (.ireturn, 1) := dk_172 (dk_at dksX6_solutionCount_0 12 rfl rfl)
abbrev cX6_solutions : ByteArray := prog_10_method_53_code
def yX6_solutions : MethodName := ⟨RX6, "solutions", "(IZ)I"⟩
def dkwX6_solutions_11 : List UInt8 := [21, 4, 2, 79, 167, 255, 58, 29, 172]
abbrev dktX6_solutions_11 : List UInt8 := dkwX6_solutions_11 ++ []
def dkwX6_solutions_10 : List UInt8 := [167, 0, 28, 132, 4, 1, 42, 180, 0, 36, 21, 4, 42, 21, 7, 28, 182, 0, 197, 79, 42, 180, 0, 39]
abbrev dktX6_solutions_10 : List UInt8 := dkwX6_solutions_10 ++ dktX6_solutions_11
def dkwX6_solutions_9 : List UInt8 := [153, 0, 50, 42, 21, 7, 182, 0, 191, 153, 0, 16, 42, 21, 7, 29, 182, 0, 194, 132, 3, 1]
abbrev dktX6_solutions_9 : List UInt8 := dkwX6_solutions_9 ++ dktX6_solutions_10
def dkwX6_solutions_8 : List UInt8 := [4, 21, 6, 120, 79, 42, 21, 7, 42, 42, 180, 0, 36, 21, 4, 46, 182, 0, 122, 182, 0, 164]
abbrev dktX6_solutions_8 : List UInt8 := dkwX6_solutions_8 ++ dktX6_solutions_9
def dkwX6_solutions_7 : List UInt8 := [54, 7, 42, 21, 5, 21, 7, 182, 0, 161, 42, 180, 0, 27, 21, 7, 42, 180, 0, 36, 21, 4, 46, 96]
abbrev dktX6_solutions_7 : List UInt8 := dkwX6_solutions_7 ++ dktX6_solutions_8
def dkwX6_solutions_6 : List UInt8 := [79, 21, 6, 42, 180, 0, 7, 4, 46, 164, 0, 9, 132, 4, 255, 167, 0, 104, 21, 5, 16, 25, 96]
abbrev dktX6_solutions_6 : List UInt8 := dkwX6_solutions_6 ++ dktX6_solutions_7
def dkwX6_solutions_5 : List UInt8 := [96, 46, 21, 6, 184, 0, 102, 154, 0, 9, 132, 6, 1, 167, 255, 219, 42, 180, 0, 39, 21, 4, 21, 6]
abbrev dktX6_solutions_5 : List UInt8 := dkwX6_solutions_5 ++ dktX6_solutions_6
def dkwX6_solutions_4 : List UInt8 := [21, 6, 42, 180, 0, 7, 4, 46, 163, 0, 32, 42, 180, 0, 27, 21, 5, 42, 180, 0, 36, 21, 4, 46]
abbrev dktX6_solutions_4 : List UInt8 := dkwX6_solutions_4 ++ dktX6_solutions_5
def dkwX6_solutions_3 : List UInt8 := [162, 0, 194, 16, 75, 16, 25, 21, 4, 104, 96, 54, 5, 42, 180, 0, 39, 21, 4, 46, 4, 96, 54, 6]
abbrev dktX6_solutions_3 : List UInt8 := dkwX6_solutions_3 ++ dktX6_solutions_4
def dkwX6_solutions_2 : List UInt8 := [3, 42, 16, 75, 28, 182, 0, 197, 79, 42, 180, 0, 39, 3, 2, 79, 21, 4, 155, 0, 199, 29, 27]
abbrev dktX6_solutions_2 : List UInt8 := dkwX6_solutions_2 ++ dktX6_solutions_3
def dkwX6_solutions_1 : List UInt8 := [182, 0, 191, 153, 0, 12, 42, 16, 75, 3, 182, 0, 194, 4, 172, 3, 62, 3, 54, 4, 42, 180, 0, 36]
abbrev dktX6_solutions_1 : List UInt8 := dkwX6_solutions_1 ++ dktX6_solutions_2
def dkwX6_solutions_0 : List UInt8 := [42, 16, 75, 182, 0, 126, 42, 16, 75, 42, 182, 0, 188, 182, 0, 164, 154, 0, 5, 3, 172, 42, 16, 75]
abbrev dktX6_solutions_0 : List UInt8 := dkwX6_solutions_0 ++ dktX6_solutions_1
theorem dksX6_solutions_0 : cX6_solutions.data.toList.drop 0 = dktX6_solutions_0 := by decide +kernel
theorem dksX6_solutions_1 : cX6_solutions.data.toList.drop 24 = dktX6_solutions_1 := dk_seg dksX6_solutions_0 24 rfl rfl
theorem dksX6_solutions_2 : cX6_solutions.data.toList.drop 48 = dktX6_solutions_2 := dk_seg dksX6_solutions_1 24 rfl rfl
theorem dksX6_solutions_3 : cX6_solutions.data.toList.drop 71 = dktX6_solutions_3 := dk_seg dksX6_solutions_2 23 rfl rfl
theorem dksX6_solutions_4 : cX6_solutions.data.toList.drop 95 = dktX6_solutions_4 := dk_seg dksX6_solutions_3 24 rfl rfl
theorem dksX6_solutions_5 : cX6_solutions.data.toList.drop 119 = dktX6_solutions_5 := dk_seg dksX6_solutions_4 24 rfl rfl
theorem dksX6_solutions_6 : cX6_solutions.data.toList.drop 143 = dktX6_solutions_6 := dk_seg dksX6_solutions_5 24 rfl rfl
theorem dksX6_solutions_7 : cX6_solutions.data.toList.drop 166 = dktX6_solutions_7 := dk_seg dksX6_solutions_6 23 rfl rfl
theorem dksX6_solutions_8 : cX6_solutions.data.toList.drop 190 = dktX6_solutions_8 := dk_seg dksX6_solutions_7 24 rfl rfl
theorem dksX6_solutions_9 : cX6_solutions.data.toList.drop 212 = dktX6_solutions_9 := dk_seg dksX6_solutions_8 22 rfl rfl
theorem dksX6_solutions_10 : cX6_solutions.data.toList.drop 234 = dktX6_solutions_10 := dk_seg dksX6_solutions_9 22 rfl rfl
theorem dksX6_solutions_11 : cX6_solutions.data.toList.drop 258 = dktX6_solutions_11 := dk_seg dksX6_solutions_10 24 rfl rfl
theorem dX6_solutions_0 : decode cX6_solutions 0 = .ok (.aload_n 0, 1) := dk_42 (dk_at dksX6_solutions_0 0 rfl rfl)
theorem dX6_solutions_1 : decode cX6_solutions 1 = .ok (.bipush 75, 2) := dk_16 75 (dk_at dksX6_solutions_0 1 rfl rfl)
theorem dX6_solutions_3 : decode cX6_solutions 3 = .ok (.invokevirtual 126, 3) := dk_182 0 126 (dk_at dksX6_solutions_0 3 rfl rfl)
theorem dX6_solutions_6 : decode cX6_solutions 6 = .ok (.aload_n 0, 1) := dk_42 (dk_at dksX6_solutions_0 6 rfl rfl)
theorem dX6_solutions_7 : decode cX6_solutions 7 = .ok (.bipush 75, 2) := dk_16 75 (dk_at dksX6_solutions_0 7 rfl rfl)
theorem dX6_solutions_9 : decode cX6_solutions 9 = .ok (.aload_n 0, 1) := dk_42 (dk_at dksX6_solutions_0 9 rfl rfl)
theorem dX6_solutions_10 : decode cX6_solutions 10 = .ok (.invokevirtual 188, 3) := dk_182 0 188 (dk_at dksX6_solutions_0 10 rfl rfl)
theorem dX6_solutions_13 : decode cX6_solutions 13 = .ok (.invokevirtual 164, 3) := dk_182 0 164 (dk_at dksX6_solutions_0 13 rfl rfl)
theorem dX6_solutions_16 : decode cX6_solutions 16 = .ok (.ifCond .ne 5, 3) := dk_154 0 5 (dk_at dksX6_solutions_0 16 rfl rfl)
theorem dX6_solutions_19 : decode cX6_solutions 19 = .ok (.iconst 0, 1) := dk_3 (dk_at dksX6_solutions_0 19 rfl rfl)
theorem dX6_solutions_20 : decode cX6_solutions 20 = .ok (.ireturn, 1) := dk_172 (dk_at dksX6_solutions_0 20 rfl rfl)
theorem dX6_solutions_21 : decode cX6_solutions 21 = .ok (.aload_n 0, 1) := dk_42 (dk_at dksX6_solutions_0 21 rfl rfl)
theorem dX6_solutions_22 : decode cX6_solutions 22 = .ok (.bipush 75, 2) := dk_16 75 (dk_at dksX6_solutions_0 22 rfl rfl)
theorem dX6_solutions_24 : decode cX6_solutions 24 = .ok (.invokevirtual 191, 3) := dk_182 0 191 (dk_at dksX6_solutions_1 0 rfl rfl)
theorem dX6_solutions_27 : decode cX6_solutions 27 = .ok (.ifCond .eq 12, 3) := dk_153 0 12 (dk_at dksX6_solutions_1 3 rfl rfl)
theorem dX6_solutions_30 : decode cX6_solutions 30 = .ok (.aload_n 0, 1) := dk_42 (dk_at dksX6_solutions_1 6 rfl rfl)
theorem dX6_solutions_31 : decode cX6_solutions 31 = .ok (.bipush 75, 2) := dk_16 75 (dk_at dksX6_solutions_1 7 rfl rfl)
theorem dX6_solutions_33 : decode cX6_solutions 33 = .ok (.iconst 0, 1) := dk_3 (dk_at dksX6_solutions_1 9 rfl rfl)
theorem dX6_solutions_34 : decode cX6_solutions 34 = .ok (.invokevirtual 194, 3) := dk_182 0 194 (dk_at dksX6_solutions_1 10 rfl rfl)
theorem dX6_solutions_37 : decode cX6_solutions 37 = .ok (.iconst 1, 1) := dk_4 (dk_at dksX6_solutions_1 13 rfl rfl)
theorem dX6_solutions_38 : decode cX6_solutions 38 = .ok (.ireturn, 1) := dk_172 (dk_at dksX6_solutions_1 14 rfl rfl)
theorem dX6_solutions_39 : decode cX6_solutions 39 = .ok (.iconst 0, 1) := dk_3 (dk_at dksX6_solutions_1 15 rfl rfl)
theorem dX6_solutions_40 : decode cX6_solutions 40 = .ok (.istore_n 3, 1) := dk_62 (dk_at dksX6_solutions_1 16 rfl rfl)
theorem dX6_solutions_41 : decode cX6_solutions 41 = .ok (.iconst 0, 1) := dk_3 (dk_at dksX6_solutions_1 17 rfl rfl)
theorem dX6_solutions_42 : decode cX6_solutions 42 = .ok (.istore 4, 2) := dk_54 4 (dk_at dksX6_solutions_1 18 rfl rfl)
theorem dX6_solutions_44 : decode cX6_solutions 44 = .ok (.aload_n 0, 1) := dk_42 (dk_at dksX6_solutions_1 20 rfl rfl)
theorem dX6_solutions_45 : decode cX6_solutions 45 = .ok (.getfield 36, 3) := dk_180 0 36 (dk_at dksX6_solutions_1 21 rfl rfl)
theorem dX6_solutions_48 : decode cX6_solutions 48 = .ok (.iconst 0, 1) := dk_3 (dk_at dksX6_solutions_2 0 rfl rfl)
theorem dX6_solutions_49 : decode cX6_solutions 49 = .ok (.aload_n 0, 1) := dk_42 (dk_at dksX6_solutions_2 1 rfl rfl)
theorem dX6_solutions_50 : decode cX6_solutions 50 = .ok (.bipush 75, 2) := dk_16 75 (dk_at dksX6_solutions_2 2 rfl rfl)
theorem dX6_solutions_52 : decode cX6_solutions 52 = .ok (.iload_n 2, 1) := dk_28 (dk_at dksX6_solutions_2 4 rfl rfl)
theorem dX6_solutions_53 : decode cX6_solutions 53 = .ok (.invokevirtual 197, 3) := dk_182 0 197 (dk_at dksX6_solutions_2 5 rfl rfl)
theorem dX6_solutions_56 : decode cX6_solutions 56 = .ok (.iastore, 1) := dk_79 (dk_at dksX6_solutions_2 8 rfl rfl)
theorem dX6_solutions_57 : decode cX6_solutions 57 = .ok (.aload_n 0, 1) := dk_42 (dk_at dksX6_solutions_2 9 rfl rfl)
theorem dX6_solutions_58 : decode cX6_solutions 58 = .ok (.getfield 39, 3) := dk_180 0 39 (dk_at dksX6_solutions_2 10 rfl rfl)
theorem dX6_solutions_61 : decode cX6_solutions 61 = .ok (.iconst 0, 1) := dk_3 (dk_at dksX6_solutions_2 13 rfl rfl)
theorem dX6_solutions_62 : decode cX6_solutions 62 = .ok (.iconst (-1), 1) := dk_2 (dk_at dksX6_solutions_2 14 rfl rfl)
theorem dX6_solutions_63 : decode cX6_solutions 63 = .ok (.iastore, 1) := dk_79 (dk_at dksX6_solutions_2 15 rfl rfl)
theorem dX6_solutions_64 : decode cX6_solutions 64 = .ok (.iload 4, 2) := dk_21 4 (dk_at dksX6_solutions_2 16 rfl rfl)
theorem dX6_solutions_66 : decode cX6_solutions 66 = .ok (.ifCond .lt 199, 3) := dk_155 0 199 (dk_at dksX6_solutions_2 18 rfl rfl)
theorem dX6_solutions_69 : decode cX6_solutions 69 = .ok (.iload_n 3, 1) := dk_29 (dk_at dksX6_solutions_2 21 rfl rfl)
theorem dX6_solutions_70 : decode cX6_solutions 70 = .ok (.iload_n 1, 1) := dk_27 (dk_at dksX6_solutions_2 22 rfl rfl)
theorem dX6_solutions_71 : decode cX6_solutions 71 = .ok (.if_icmp .ge 194, 3) := dk_162 0 194 (dk_at dksX6_solutions_3 0 rfl rfl)
theorem dX6_solutions_74 : decode cX6_solutions 74 = .ok (.bipush 75, 2) := dk_16 75 (dk_at dksX6_solutions_3 3 rfl rfl)
theorem dX6_solutions_76 : decode cX6_solutions 76 = .ok (.bipush 25, 2) := dk_16 25 (dk_at dksX6_solutions_3 5 rfl rfl)
theorem dX6_solutions_78 : decode cX6_solutions 78 = .ok (.iload 4, 2) := dk_21 4 (dk_at dksX6_solutions_3 7 rfl rfl)
theorem dX6_solutions_80 : decode cX6_solutions 80 = .ok (.imul, 1) := dk_104 (dk_at dksX6_solutions_3 9 rfl rfl)
theorem dX6_solutions_81 : decode cX6_solutions 81 = .ok (.iadd, 1) := dk_96 (dk_at dksX6_solutions_3 10 rfl rfl)
theorem dX6_solutions_82 : decode cX6_solutions 82 = .ok (.istore 5, 2) := dk_54 5 (dk_at dksX6_solutions_3 11 rfl rfl)
theorem dX6_solutions_84 : decode cX6_solutions 84 = .ok (.aload_n 0, 1) := dk_42 (dk_at dksX6_solutions_3 13 rfl rfl)
theorem dX6_solutions_85 : decode cX6_solutions 85 = .ok (.getfield 39, 3) := dk_180 0 39 (dk_at dksX6_solutions_3 14 rfl rfl)
theorem dX6_solutions_88 : decode cX6_solutions 88 = .ok (.iload 4, 2) := dk_21 4 (dk_at dksX6_solutions_3 17 rfl rfl)
theorem dX6_solutions_90 : decode cX6_solutions 90 = .ok (.iaload, 1) := dk_46 (dk_at dksX6_solutions_3 19 rfl rfl)
theorem dX6_solutions_91 : decode cX6_solutions 91 = .ok (.iconst 1, 1) := dk_4 (dk_at dksX6_solutions_3 20 rfl rfl)
theorem dX6_solutions_92 : decode cX6_solutions 92 = .ok (.iadd, 1) := dk_96 (dk_at dksX6_solutions_3 21 rfl rfl)
theorem dX6_solutions_93 : decode cX6_solutions 93 = .ok (.istore 6, 2) := dk_54 6 (dk_at dksX6_solutions_3 22 rfl rfl)
theorem dX6_solutions_95 : decode cX6_solutions 95 = .ok (.iload 6, 2) := dk_21 6 (dk_at dksX6_solutions_4 0 rfl rfl)
theorem dX6_solutions_97 : decode cX6_solutions 97 = .ok (.aload_n 0, 1) := dk_42 (dk_at dksX6_solutions_4 2 rfl rfl)
theorem dX6_solutions_98 : decode cX6_solutions 98 = .ok (.getfield 7, 3) := dk_180 0 7 (dk_at dksX6_solutions_4 3 rfl rfl)
theorem dX6_solutions_101 : decode cX6_solutions 101 = .ok (.iconst 1, 1) := dk_4 (dk_at dksX6_solutions_4 6 rfl rfl)
theorem dX6_solutions_102 : decode cX6_solutions 102 = .ok (.iaload, 1) := dk_46 (dk_at dksX6_solutions_4 7 rfl rfl)
theorem dX6_solutions_103 : decode cX6_solutions 103 = .ok (.if_icmp .gt 32, 3) := dk_163 0 32 (dk_at dksX6_solutions_4 8 rfl rfl)
theorem dX6_solutions_106 : decode cX6_solutions 106 = .ok (.aload_n 0, 1) := dk_42 (dk_at dksX6_solutions_4 11 rfl rfl)
theorem dX6_solutions_107 : decode cX6_solutions 107 = .ok (.getfield 27, 3) := dk_180 0 27 (dk_at dksX6_solutions_4 12 rfl rfl)
theorem dX6_solutions_110 : decode cX6_solutions 110 = .ok (.iload 5, 2) := dk_21 5 (dk_at dksX6_solutions_4 15 rfl rfl)
theorem dX6_solutions_112 : decode cX6_solutions 112 = .ok (.aload_n 0, 1) := dk_42 (dk_at dksX6_solutions_4 17 rfl rfl)
theorem dX6_solutions_113 : decode cX6_solutions 113 = .ok (.getfield 36, 3) := dk_180 0 36 (dk_at dksX6_solutions_4 18 rfl rfl)
theorem dX6_solutions_116 : decode cX6_solutions 116 = .ok (.iload 4, 2) := dk_21 4 (dk_at dksX6_solutions_4 21 rfl rfl)
theorem dX6_solutions_118 : decode cX6_solutions 118 = .ok (.iaload, 1) := dk_46 (dk_at dksX6_solutions_4 23 rfl rfl)
theorem dX6_solutions_119 : decode cX6_solutions 119 = .ok (.iadd, 1) := dk_96 (dk_at dksX6_solutions_5 0 rfl rfl)
theorem dX6_solutions_120 : decode cX6_solutions 120 = .ok (.iaload, 1) := dk_46 (dk_at dksX6_solutions_5 1 rfl rfl)
theorem dX6_solutions_121 : decode cX6_solutions 121 = .ok (.iload 6, 2) := dk_21 6 (dk_at dksX6_solutions_5 2 rfl rfl)
theorem dX6_solutions_123 : decode cX6_solutions 123 = .ok (.invokestatic 102, 3) := dk_184 0 102 (dk_at dksX6_solutions_5 4 rfl rfl)
theorem dX6_solutions_126 : decode cX6_solutions 126 = .ok (.ifCond .ne 9, 3) := dk_154 0 9 (dk_at dksX6_solutions_5 7 rfl rfl)
theorem dX6_solutions_129 : decode cX6_solutions 129 = .ok (.iinc 6 1, 3) := dk_132 6 1 (dk_at dksX6_solutions_5 10 rfl rfl)
theorem dX6_solutions_132 : decode cX6_solutions 132 = .ok (.goto (-37), 3) := dk_167 255 219 (dk_at dksX6_solutions_5 13 rfl rfl)
theorem dX6_solutions_135 : decode cX6_solutions 135 = .ok (.aload_n 0, 1) := dk_42 (dk_at dksX6_solutions_5 16 rfl rfl)
theorem dX6_solutions_136 : decode cX6_solutions 136 = .ok (.getfield 39, 3) := dk_180 0 39 (dk_at dksX6_solutions_5 17 rfl rfl)
theorem dX6_solutions_139 : decode cX6_solutions 139 = .ok (.iload 4, 2) := dk_21 4 (dk_at dksX6_solutions_5 20 rfl rfl)
theorem dX6_solutions_141 : decode cX6_solutions 141 = .ok (.iload 6, 2) := dk_21 6 (dk_at dksX6_solutions_5 22 rfl rfl)
theorem dX6_solutions_143 : decode cX6_solutions 143 = .ok (.iastore, 1) := dk_79 (dk_at dksX6_solutions_6 0 rfl rfl)
theorem dX6_solutions_144 : decode cX6_solutions 144 = .ok (.iload 6, 2) := dk_21 6 (dk_at dksX6_solutions_6 1 rfl rfl)
theorem dX6_solutions_146 : decode cX6_solutions 146 = .ok (.aload_n 0, 1) := dk_42 (dk_at dksX6_solutions_6 3 rfl rfl)
theorem dX6_solutions_147 : decode cX6_solutions 147 = .ok (.getfield 7, 3) := dk_180 0 7 (dk_at dksX6_solutions_6 4 rfl rfl)
theorem dX6_solutions_150 : decode cX6_solutions 150 = .ok (.iconst 1, 1) := dk_4 (dk_at dksX6_solutions_6 7 rfl rfl)
theorem dX6_solutions_151 : decode cX6_solutions 151 = .ok (.iaload, 1) := dk_46 (dk_at dksX6_solutions_6 8 rfl rfl)
theorem dX6_solutions_152 : decode cX6_solutions 152 = .ok (.if_icmp .le 9, 3) := dk_164 0 9 (dk_at dksX6_solutions_6 9 rfl rfl)
theorem dX6_solutions_155 : decode cX6_solutions 155 = .ok (.iinc 4 (-1), 3) := dk_132 4 255 (dk_at dksX6_solutions_6 12 rfl rfl)
theorem dX6_solutions_158 : decode cX6_solutions 158 = .ok (.goto 104, 3) := dk_167 0 104 (dk_at dksX6_solutions_6 15 rfl rfl)
theorem dX6_solutions_161 : decode cX6_solutions 161 = .ok (.iload 5, 2) := dk_21 5 (dk_at dksX6_solutions_6 18 rfl rfl)
theorem dX6_solutions_163 : decode cX6_solutions 163 = .ok (.bipush 25, 2) := dk_16 25 (dk_at dksX6_solutions_6 20 rfl rfl)
theorem dX6_solutions_165 : decode cX6_solutions 165 = .ok (.iadd, 1) := dk_96 (dk_at dksX6_solutions_6 22 rfl rfl)
theorem dX6_solutions_166 : decode cX6_solutions 166 = .ok (.istore 7, 2) := dk_54 7 (dk_at dksX6_solutions_7 0 rfl rfl)
theorem dX6_solutions_168 : decode cX6_solutions 168 = .ok (.aload_n 0, 1) := dk_42 (dk_at dksX6_solutions_7 2 rfl rfl)
theorem dX6_solutions_169 : decode cX6_solutions 169 = .ok (.iload 5, 2) := dk_21 5 (dk_at dksX6_solutions_7 3 rfl rfl)
theorem dX6_solutions_171 : decode cX6_solutions 171 = .ok (.iload 7, 2) := dk_21 7 (dk_at dksX6_solutions_7 5 rfl rfl)
theorem dX6_solutions_173 : decode cX6_solutions 173 = .ok (.invokevirtual 161, 3) := dk_182 0 161 (dk_at dksX6_solutions_7 7 rfl rfl)
theorem dX6_solutions_176 : decode cX6_solutions 176 = .ok (.aload_n 0, 1) := dk_42 (dk_at dksX6_solutions_7 10 rfl rfl)
theorem dX6_solutions_177 : decode cX6_solutions 177 = .ok (.getfield 27, 3) := dk_180 0 27 (dk_at dksX6_solutions_7 11 rfl rfl)
theorem dX6_solutions_180 : decode cX6_solutions 180 = .ok (.iload 7, 2) := dk_21 7 (dk_at dksX6_solutions_7 14 rfl rfl)
theorem dX6_solutions_182 : decode cX6_solutions 182 = .ok (.aload_n 0, 1) := dk_42 (dk_at dksX6_solutions_7 16 rfl rfl)
theorem dX6_solutions_183 : decode cX6_solutions 183 = .ok (.getfield 36, 3) := dk_180 0 36 (dk_at dksX6_solutions_7 17 rfl rfl)
theorem dX6_solutions_186 : decode cX6_solutions 186 = .ok (.iload 4, 2) := dk_21 4 (dk_at dksX6_solutions_7 20 rfl rfl)
theorem dX6_solutions_188 : decode cX6_solutions 188 = .ok (.iaload, 1) := dk_46 (dk_at dksX6_solutions_7 22 rfl rfl)
theorem dX6_solutions_189 : decode cX6_solutions 189 = .ok (.iadd, 1) := dk_96 (dk_at dksX6_solutions_7 23 rfl rfl)
theorem dX6_solutions_190 : decode cX6_solutions 190 = .ok (.iconst 1, 1) := dk_4 (dk_at dksX6_solutions_8 0 rfl rfl)
theorem dX6_solutions_191 : decode cX6_solutions 191 = .ok (.iload 6, 2) := dk_21 6 (dk_at dksX6_solutions_8 1 rfl rfl)
theorem dX6_solutions_193 : decode cX6_solutions 193 = .ok (.ishl, 1) := dk_120 (dk_at dksX6_solutions_8 3 rfl rfl)
theorem dX6_solutions_194 : decode cX6_solutions 194 = .ok (.iastore, 1) := dk_79 (dk_at dksX6_solutions_8 4 rfl rfl)
theorem dX6_solutions_195 : decode cX6_solutions 195 = .ok (.aload_n 0, 1) := dk_42 (dk_at dksX6_solutions_8 5 rfl rfl)
theorem dX6_solutions_196 : decode cX6_solutions 196 = .ok (.iload 7, 2) := dk_21 7 (dk_at dksX6_solutions_8 6 rfl rfl)
theorem dX6_solutions_198 : decode cX6_solutions 198 = .ok (.aload_n 0, 1) := dk_42 (dk_at dksX6_solutions_8 8 rfl rfl)
theorem dX6_solutions_199 : decode cX6_solutions 199 = .ok (.aload_n 0, 1) := dk_42 (dk_at dksX6_solutions_8 9 rfl rfl)
theorem dX6_solutions_200 : decode cX6_solutions 200 = .ok (.getfield 36, 3) := dk_180 0 36 (dk_at dksX6_solutions_8 10 rfl rfl)
theorem dX6_solutions_203 : decode cX6_solutions 203 = .ok (.iload 4, 2) := dk_21 4 (dk_at dksX6_solutions_8 13 rfl rfl)
theorem dX6_solutions_205 : decode cX6_solutions 205 = .ok (.iaload, 1) := dk_46 (dk_at dksX6_solutions_8 15 rfl rfl)
theorem dX6_solutions_206 : decode cX6_solutions 206 = .ok (.invokevirtual 122, 3) := dk_182 0 122 (dk_at dksX6_solutions_8 16 rfl rfl)
theorem dX6_solutions_209 : decode cX6_solutions 209 = .ok (.invokevirtual 164, 3) := dk_182 0 164 (dk_at dksX6_solutions_8 19 rfl rfl)
theorem dX6_solutions_212 : decode cX6_solutions 212 = .ok (.ifCond .eq 50, 3) := dk_153 0 50 (dk_at dksX6_solutions_9 0 rfl rfl)
theorem dX6_solutions_215 : decode cX6_solutions 215 = .ok (.aload_n 0, 1) := dk_42 (dk_at dksX6_solutions_9 3 rfl rfl)
theorem dX6_solutions_216 : decode cX6_solutions 216 = .ok (.iload 7, 2) := dk_21 7 (dk_at dksX6_solutions_9 4 rfl rfl)
theorem dX6_solutions_218 : decode cX6_solutions 218 = .ok (.invokevirtual 191, 3) := dk_182 0 191 (dk_at dksX6_solutions_9 6 rfl rfl)
theorem dX6_solutions_221 : decode cX6_solutions 221 = .ok (.ifCond .eq 16, 3) := dk_153 0 16 (dk_at dksX6_solutions_9 9 rfl rfl)
theorem dX6_solutions_224 : decode cX6_solutions 224 = .ok (.aload_n 0, 1) := dk_42 (dk_at dksX6_solutions_9 12 rfl rfl)
theorem dX6_solutions_225 : decode cX6_solutions 225 = .ok (.iload 7, 2) := dk_21 7 (dk_at dksX6_solutions_9 13 rfl rfl)
theorem dX6_solutions_227 : decode cX6_solutions 227 = .ok (.iload_n 3, 1) := dk_29 (dk_at dksX6_solutions_9 15 rfl rfl)
theorem dX6_solutions_228 : decode cX6_solutions 228 = .ok (.invokevirtual 194, 3) := dk_182 0 194 (dk_at dksX6_solutions_9 16 rfl rfl)
theorem dX6_solutions_231 : decode cX6_solutions 231 = .ok (.iinc 3 1, 3) := dk_132 3 1 (dk_at dksX6_solutions_9 19 rfl rfl)
theorem dX6_solutions_234 : decode cX6_solutions 234 = .ok (.goto 28, 3) := dk_167 0 28 (dk_at dksX6_solutions_10 0 rfl rfl)
theorem dX6_solutions_237 : decode cX6_solutions 237 = .ok (.iinc 4 1, 3) := dk_132 4 1 (dk_at dksX6_solutions_10 3 rfl rfl)
theorem dX6_solutions_240 : decode cX6_solutions 240 = .ok (.aload_n 0, 1) := dk_42 (dk_at dksX6_solutions_10 6 rfl rfl)
theorem dX6_solutions_241 : decode cX6_solutions 241 = .ok (.getfield 36, 3) := dk_180 0 36 (dk_at dksX6_solutions_10 7 rfl rfl)
theorem dX6_solutions_244 : decode cX6_solutions 244 = .ok (.iload 4, 2) := dk_21 4 (dk_at dksX6_solutions_10 10 rfl rfl)
theorem dX6_solutions_246 : decode cX6_solutions 246 = .ok (.aload_n 0, 1) := dk_42 (dk_at dksX6_solutions_10 12 rfl rfl)
theorem dX6_solutions_247 : decode cX6_solutions 247 = .ok (.iload 7, 2) := dk_21 7 (dk_at dksX6_solutions_10 13 rfl rfl)
theorem dX6_solutions_249 : decode cX6_solutions 249 = .ok (.iload_n 2, 1) := dk_28 (dk_at dksX6_solutions_10 15 rfl rfl)
theorem dX6_solutions_250 : decode cX6_solutions 250 = .ok (.invokevirtual 197, 3) := dk_182 0 197 (dk_at dksX6_solutions_10 16 rfl rfl)
theorem dX6_solutions_253 : decode cX6_solutions 253 = .ok (.iastore, 1) := dk_79 (dk_at dksX6_solutions_10 19 rfl rfl)
theorem dX6_solutions_254 : decode cX6_solutions 254 = .ok (.aload_n 0, 1) := dk_42 (dk_at dksX6_solutions_10 20 rfl rfl)
theorem dX6_solutions_255 : decode cX6_solutions 255 = .ok (.getfield 39, 3) := dk_180 0 39 (dk_at dksX6_solutions_10 21 rfl rfl)
theorem dX6_solutions_258 : decode cX6_solutions 258 = .ok (.iload 4, 2) := dk_21 4 (dk_at dksX6_solutions_11 0 rfl rfl)
theorem dX6_solutions_260 : decode cX6_solutions 260 = .ok (.iconst (-1), 1) := dk_2 (dk_at dksX6_solutions_11 2 rfl rfl)
theorem dX6_solutions_261 : decode cX6_solutions 261 = .ok (.iastore, 1) := dk_79 (dk_at dksX6_solutions_11 3 rfl rfl)
theorem dX6_solutions_262 : decode cX6_solutions 262 = .ok (.goto (-198), 3) := dk_167 255 58 (dk_at dksX6_solutions_11 4 rfl rfl)
theorem dX6_solutions_265 : decode cX6_solutions 265 = .ok (.iload_n 3, 1) := dk_29 (dk_at dksX6_solutions_11 7 rfl rfl)
theorem dX6_solutions_266 : decode cX6_solutions 266 = .ok (.ireturn, 1) := dk_172 (dk_at dksX6_solutions_11 8 rfl rfl)
abbrev cX6_isDone : ByteArray := prog_10_method_50_code
def yX6_isDone : MethodName := ⟨RX6, "isDone", "(I)Z"⟩
def dkwX6_isDone_1 : List UInt8 := [46, 182, 0, 136, 153, 0, 7, 4, 167, 0, 4, 3, 61, 132, 3, 1, 167, 255, 220, 28, 172]
abbrev dktX6_isDone_1 : List UInt8 := dkwX6_isDone_1 ++ []
def dkwX6_isDone_0 : List UInt8 := [4, 61, 3, 62, 29, 42, 182, 0, 66, 162, 0, 34, 28, 153, 0, 22, 42, 42, 180, 0, 27, 27, 29, 96]
abbrev dktX6_isDone_0 : List UInt8 := dkwX6_isDone_0 ++ dktX6_isDone_1
theorem dksX6_isDone_0 : cX6_isDone.data.toList.drop 0 = dktX6_isDone_0 := by decide +kernel
theorem dksX6_isDone_1 : cX6_isDone.data.toList.drop 24 = dktX6_isDone_1 := dk_seg dksX6_isDone_0 24 rfl rfl
theorem dX6_isDone_0 : decode cX6_isDone 0 = .ok (.iconst 1, 1) := dk_4 (dk_at dksX6_isDone_0 0 rfl rfl)
theorem dX6_isDone_1 : decode cX6_isDone 1 = .ok (.istore_n 2, 1) := dk_61 (dk_at dksX6_isDone_0 1 rfl rfl)
theorem dX6_isDone_2 : decode cX6_isDone 2 = .ok (.iconst 0, 1) := dk_3 (dk_at dksX6_isDone_0 2 rfl rfl)
theorem dX6_isDone_3 : decode cX6_isDone 3 = .ok (.istore_n 3, 1) := dk_62 (dk_at dksX6_isDone_0 3 rfl rfl)
theorem dX6_isDone_4 : decode cX6_isDone 4 = .ok (.iload_n 3, 1) := dk_29 (dk_at dksX6_isDone_0 4 rfl rfl)
theorem dX6_isDone_5 : decode cX6_isDone 5 = .ok (.aload_n 0, 1) := dk_42 (dk_at dksX6_isDone_0 5 rfl rfl)
theorem dX6_isDone_6 : decode cX6_isDone 6 = .ok (.invokevirtual 66, 3) := dk_182 0 66 (dk_at dksX6_isDone_0 6 rfl rfl)
theorem dX6_isDone_9 : decode cX6_isDone 9 = .ok (.if_icmp .ge 34, 3) := dk_162 0 34 (dk_at dksX6_isDone_0 9 rfl rfl)
theorem dX6_isDone_12 : decode cX6_isDone 12 = .ok (.iload_n 2, 1) := dk_28 (dk_at dksX6_isDone_0 12 rfl rfl)
theorem dX6_isDone_13 : decode cX6_isDone 13 = .ok (.ifCond .eq 22, 3) := dk_153 0 22 (dk_at dksX6_isDone_0 13 rfl rfl)
theorem dX6_isDone_16 : decode cX6_isDone 16 = .ok (.aload_n 0, 1) := dk_42 (dk_at dksX6_isDone_0 16 rfl rfl)
theorem dX6_isDone_17 : decode cX6_isDone 17 = .ok (.aload_n 0, 1) := dk_42 (dk_at dksX6_isDone_0 17 rfl rfl)
theorem dX6_isDone_18 : decode cX6_isDone 18 = .ok (.getfield 27, 3) := dk_180 0 27 (dk_at dksX6_isDone_0 18 rfl rfl)
theorem dX6_isDone_21 : decode cX6_isDone 21 = .ok (.iload_n 1, 1) := dk_27 (dk_at dksX6_isDone_0 21 rfl rfl)
theorem dX6_isDone_22 : decode cX6_isDone 22 = .ok (.iload_n 3, 1) := dk_29 (dk_at dksX6_isDone_0 22 rfl rfl)
theorem dX6_isDone_23 : decode cX6_isDone 23 = .ok (.iadd, 1) := dk_96 (dk_at dksX6_isDone_0 23 rfl rfl)
theorem dX6_isDone_24 : decode cX6_isDone 24 = .ok (.iaload, 1) := dk_46 (dk_at dksX6_isDone_1 0 rfl rfl)
theorem dX6_isDone_25 : decode cX6_isDone 25 = .ok (.invokevirtual 136, 3) := dk_182 0 136 (dk_at dksX6_isDone_1 1 rfl rfl)
theorem dX6_isDone_28 : decode cX6_isDone 28 = .ok (.ifCond .eq 7, 3) := dk_153 0 7 (dk_at dksX6_isDone_1 4 rfl rfl)
theorem dX6_isDone_31 : decode cX6_isDone 31 = .ok (.iconst 1, 1) := dk_4 (dk_at dksX6_isDone_1 7 rfl rfl)
theorem dX6_isDone_32 : decode cX6_isDone 32 = .ok (.goto 4, 3) := dk_167 0 4 (dk_at dksX6_isDone_1 8 rfl rfl)
theorem dX6_isDone_35 : decode cX6_isDone 35 = .ok (.iconst 0, 1) := dk_3 (dk_at dksX6_isDone_1 11 rfl rfl)
theorem dX6_isDone_36 : decode cX6_isDone 36 = .ok (.istore_n 2, 1) := dk_61 (dk_at dksX6_isDone_1 12 rfl rfl)
theorem dX6_isDone_37 : decode cX6_isDone 37 = .ok (.iinc 3 1, 3) := dk_132 3 1 (dk_at dksX6_isDone_1 13 rfl rfl)
theorem dX6_isDone_40 : decode cX6_isDone 40 = .ok (.goto (-36), 3) := dk_167 255 220 (dk_at dksX6_isDone_1 16 rfl rfl)
theorem dX6_isDone_43 : decode cX6_isDone 43 = .ok (.iload_n 2, 1) := dk_28 (dk_at dksX6_isDone_1 19 rfl rfl)
theorem dX6_isDone_44 : decode cX6_isDone 44 = .ok (.ireturn, 1) := dk_172 (dk_at dksX6_isDone_1 20 rfl rfl)
abbrev cX6_finds : ByteArray := prog_10_method_52_code
def yX6_finds : MethodName := ⟨RX6, "finds", "(II)V"⟩
def dkwX6_finds_4 : List UInt8 := [20, 0, 186, 131, 127, 181, 0, 179, 132, 3, 1, 167, 255, 178, 177]
abbrev dktX6_finds_4 : List UInt8 := dkwX6_finds_4 ++ []
def dkwX6_finds_3 : List UInt8 := [180, 0, 179, 21, 4, 42, 180, 0, 42, 29, 46, 160, 0, 9, 20, 0, 186, 167, 0, 10, 10, 29, 121]
abbrev dktX6_finds_3 : List UInt8 := dkwX6_finds_3 ++ dktX6_finds_4
def dkwX6_finds_2 : List UInt8 := [180, 0, 42, 29, 28, 154, 0, 8, 21, 4, 167, 0, 9, 42, 180, 0, 42, 29, 46, 79, 42, 89]
abbrev dktX6_finds_2 : List UInt8 := dkwX6_finds_2 ++ dktX6_finds_3
def dkwX6_finds_1 : List UInt8 := [62, 29, 42, 182, 0, 66, 162, 0, 76, 42, 180, 0, 27, 27, 29, 96, 46, 184, 0, 183, 54, 4, 42]
abbrev dktX6_finds_1 : List UInt8 := dkwX6_finds_1 ++ dktX6_finds_2
def dkwX6_finds_0 : List UInt8 := [42, 28, 154, 0, 14, 10, 42, 182, 0, 66, 121, 10, 101, 167, 0, 7, 42, 180, 0, 179, 181, 0, 179, 3]
abbrev dktX6_finds_0 : List UInt8 := dkwX6_finds_0 ++ dktX6_finds_1
theorem dksX6_finds_0 : cX6_finds.data.toList.drop 0 = dktX6_finds_0 := by decide +kernel
theorem dksX6_finds_1 : cX6_finds.data.toList.drop 24 = dktX6_finds_1 := dk_seg dksX6_finds_0 24 rfl rfl
theorem dksX6_finds_2 : cX6_finds.data.toList.drop 47 = dktX6_finds_2 := dk_seg dksX6_finds_1 23 rfl rfl
theorem dksX6_finds_3 : cX6_finds.data.toList.drop 69 = dktX6_finds_3 := dk_seg dksX6_finds_2 22 rfl rfl
theorem dksX6_finds_4 : cX6_finds.data.toList.drop 92 = dktX6_finds_4 := dk_seg dksX6_finds_3 23 rfl rfl
theorem dX6_finds_0 : decode cX6_finds 0 = .ok (.aload_n 0, 1) := dk_42 (dk_at dksX6_finds_0 0 rfl rfl)
theorem dX6_finds_1 : decode cX6_finds 1 = .ok (.iload_n 2, 1) := dk_28 (dk_at dksX6_finds_0 1 rfl rfl)
theorem dX6_finds_2 : decode cX6_finds 2 = .ok (.ifCond .ne 14, 3) := dk_154 0 14 (dk_at dksX6_finds_0 2 rfl rfl)
theorem dX6_finds_5 : decode cX6_finds 5 = .ok (.lconst 1, 1) := dk_10 (dk_at dksX6_finds_0 5 rfl rfl)
theorem dX6_finds_6 : decode cX6_finds 6 = .ok (.aload_n 0, 1) := dk_42 (dk_at dksX6_finds_0 6 rfl rfl)
theorem dX6_finds_7 : decode cX6_finds 7 = .ok (.invokevirtual 66, 3) := dk_182 0 66 (dk_at dksX6_finds_0 7 rfl rfl)
theorem dX6_finds_10 : decode cX6_finds 10 = .ok (.lshl, 1) := dk_121 (dk_at dksX6_finds_0 10 rfl rfl)
theorem dX6_finds_11 : decode cX6_finds 11 = .ok (.lconst 1, 1) := dk_10 (dk_at dksX6_finds_0 11 rfl rfl)
theorem dX6_finds_12 : decode cX6_finds 12 = .ok (.lsub, 1) := dk_101 (dk_at dksX6_finds_0 12 rfl rfl)
theorem dX6_finds_13 : decode cX6_finds 13 = .ok (.goto 7, 3) := dk_167 0 7 (dk_at dksX6_finds_0 13 rfl rfl)
theorem dX6_finds_16 : decode cX6_finds 16 = .ok (.aload_n 0, 1) := dk_42 (dk_at dksX6_finds_0 16 rfl rfl)
theorem dX6_finds_17 : decode cX6_finds 17 = .ok (.getfield 179, 3) := dk_180 0 179 (dk_at dksX6_finds_0 17 rfl rfl)
theorem dX6_finds_20 : decode cX6_finds 20 = .ok (.putfield 179, 3) := dk_181 0 179 (dk_at dksX6_finds_0 20 rfl rfl)
theorem dX6_finds_23 : decode cX6_finds 23 = .ok (.iconst 0, 1) := dk_3 (dk_at dksX6_finds_0 23 rfl rfl)
theorem dX6_finds_24 : decode cX6_finds 24 = .ok (.istore_n 3, 1) := dk_62 (dk_at dksX6_finds_1 0 rfl rfl)
theorem dX6_finds_25 : decode cX6_finds 25 = .ok (.iload_n 3, 1) := dk_29 (dk_at dksX6_finds_1 1 rfl rfl)
theorem dX6_finds_26 : decode cX6_finds 26 = .ok (.aload_n 0, 1) := dk_42 (dk_at dksX6_finds_1 2 rfl rfl)
theorem dX6_finds_27 : decode cX6_finds 27 = .ok (.invokevirtual 66, 3) := dk_182 0 66 (dk_at dksX6_finds_1 3 rfl rfl)
theorem dX6_finds_30 : decode cX6_finds 30 = .ok (.if_icmp .ge 76, 3) := dk_162 0 76 (dk_at dksX6_finds_1 6 rfl rfl)
theorem dX6_finds_33 : decode cX6_finds 33 = .ok (.aload_n 0, 1) := dk_42 (dk_at dksX6_finds_1 9 rfl rfl)
theorem dX6_finds_34 : decode cX6_finds 34 = .ok (.getfield 27, 3) := dk_180 0 27 (dk_at dksX6_finds_1 10 rfl rfl)
theorem dX6_finds_37 : decode cX6_finds 37 = .ok (.iload_n 1, 1) := dk_27 (dk_at dksX6_finds_1 13 rfl rfl)
theorem dX6_finds_38 : decode cX6_finds 38 = .ok (.iload_n 3, 1) := dk_29 (dk_at dksX6_finds_1 14 rfl rfl)
theorem dX6_finds_39 : decode cX6_finds 39 = .ok (.iadd, 1) := dk_96 (dk_at dksX6_finds_1 15 rfl rfl)
theorem dX6_finds_40 : decode cX6_finds 40 = .ok (.iaload, 1) := dk_46 (dk_at dksX6_finds_1 16 rfl rfl)
theorem dX6_finds_41 : decode cX6_finds 41 = .ok (.invokestatic 183, 3) := dk_184 0 183 (dk_at dksX6_finds_1 17 rfl rfl)
theorem dX6_finds_44 : decode cX6_finds 44 = .ok (.istore 4, 2) := dk_54 4 (dk_at dksX6_finds_1 20 rfl rfl)
theorem dX6_finds_46 : decode cX6_finds 46 = .ok (.aload_n 0, 1) := dk_42 (dk_at dksX6_finds_1 22 rfl rfl)
theorem dX6_finds_47 : decode cX6_finds 47 = .ok (.getfield 42, 3) := dk_180 0 42 (dk_at dksX6_finds_2 0 rfl rfl)
theorem dX6_finds_50 : decode cX6_finds 50 = .ok (.iload_n 3, 1) := dk_29 (dk_at dksX6_finds_2 3 rfl rfl)
theorem dX6_finds_51 : decode cX6_finds 51 = .ok (.iload_n 2, 1) := dk_28 (dk_at dksX6_finds_2 4 rfl rfl)
theorem dX6_finds_52 : decode cX6_finds 52 = .ok (.ifCond .ne 8, 3) := dk_154 0 8 (dk_at dksX6_finds_2 5 rfl rfl)
theorem dX6_finds_55 : decode cX6_finds 55 = .ok (.iload 4, 2) := dk_21 4 (dk_at dksX6_finds_2 8 rfl rfl)
theorem dX6_finds_57 : decode cX6_finds 57 = .ok (.goto 9, 3) := dk_167 0 9 (dk_at dksX6_finds_2 10 rfl rfl)
theorem dX6_finds_60 : decode cX6_finds 60 = .ok (.aload_n 0, 1) := dk_42 (dk_at dksX6_finds_2 13 rfl rfl)
theorem dX6_finds_61 : decode cX6_finds 61 = .ok (.getfield 42, 3) := dk_180 0 42 (dk_at dksX6_finds_2 14 rfl rfl)
theorem dX6_finds_64 : decode cX6_finds 64 = .ok (.iload_n 3, 1) := dk_29 (dk_at dksX6_finds_2 17 rfl rfl)
theorem dX6_finds_65 : decode cX6_finds 65 = .ok (.iaload, 1) := dk_46 (dk_at dksX6_finds_2 18 rfl rfl)
theorem dX6_finds_66 : decode cX6_finds 66 = .ok (.iastore, 1) := dk_79 (dk_at dksX6_finds_2 19 rfl rfl)
theorem dX6_finds_67 : decode cX6_finds 67 = .ok (.aload_n 0, 1) := dk_42 (dk_at dksX6_finds_2 20 rfl rfl)
theorem dX6_finds_68 : decode cX6_finds 68 = .ok (.dup, 1) := dk_89 (dk_at dksX6_finds_2 21 rfl rfl)
theorem dX6_finds_69 : decode cX6_finds 69 = .ok (.getfield 179, 3) := dk_180 0 179 (dk_at dksX6_finds_3 0 rfl rfl)
theorem dX6_finds_72 : decode cX6_finds 72 = .ok (.iload 4, 2) := dk_21 4 (dk_at dksX6_finds_3 3 rfl rfl)
theorem dX6_finds_74 : decode cX6_finds 74 = .ok (.aload_n 0, 1) := dk_42 (dk_at dksX6_finds_3 5 rfl rfl)
theorem dX6_finds_75 : decode cX6_finds 75 = .ok (.getfield 42, 3) := dk_180 0 42 (dk_at dksX6_finds_3 6 rfl rfl)
theorem dX6_finds_78 : decode cX6_finds 78 = .ok (.iload_n 3, 1) := dk_29 (dk_at dksX6_finds_3 9 rfl rfl)
theorem dX6_finds_79 : decode cX6_finds 79 = .ok (.iaload, 1) := dk_46 (dk_at dksX6_finds_3 10 rfl rfl)
theorem dX6_finds_80 : decode cX6_finds 80 = .ok (.if_icmp .ne 9, 3) := dk_160 0 9 (dk_at dksX6_finds_3 11 rfl rfl)
theorem dX6_finds_83 : decode cX6_finds 83 = .ok (.ldc2_w 186, 3) := dk_20 0 186 (dk_at dksX6_finds_3 14 rfl rfl)
theorem dX6_finds_86 : decode cX6_finds 86 = .ok (.goto 10, 3) := dk_167 0 10 (dk_at dksX6_finds_3 17 rfl rfl)
theorem dX6_finds_89 : decode cX6_finds 89 = .ok (.lconst 1, 1) := dk_10 (dk_at dksX6_finds_3 20 rfl rfl)
theorem dX6_finds_90 : decode cX6_finds 90 = .ok (.iload_n 3, 1) := dk_29 (dk_at dksX6_finds_3 21 rfl rfl)
theorem dX6_finds_91 : decode cX6_finds 91 = .ok (.lshl, 1) := dk_121 (dk_at dksX6_finds_3 22 rfl rfl)
theorem dX6_finds_92 : decode cX6_finds 92 = .ok (.ldc2_w 186, 3) := dk_20 0 186 (dk_at dksX6_finds_4 0 rfl rfl)
theorem dX6_finds_95 : decode cX6_finds 95 = .ok (.lxor, 1) := dk_131 (dk_at dksX6_finds_4 3 rfl rfl)
theorem dX6_finds_96 : decode cX6_finds 96 = .ok (.land, 1) := dk_127 (dk_at dksX6_finds_4 4 rfl rfl)
theorem dX6_finds_97 : decode cX6_finds 97 = .ok (.putfield 179, 3) := dk_181 0 179 (dk_at dksX6_finds_4 5 rfl rfl)
theorem dX6_finds_100 : decode cX6_finds 100 = .ok (.iinc 3 1, 3) := dk_132 3 1 (dk_at dksX6_finds_4 8 rfl rfl)
theorem dX6_finds_103 : decode cX6_finds 103 = .ok (.goto (-78), 3) := dk_167 255 178 (dk_at dksX6_finds_4 11 rfl rfl)
theorem dX6_finds_106 : decode cX6_finds 106 = .ok (.return_, 1) := dk_177 (dk_at dksX6_finds_4 14 rfl rfl)
abbrev cX6_guess : ByteArray := prog_10_method_51_code
def yX6_guess : MethodName := ⟨RX6, "guess", "(IZ)I"⟩
def dkwX6_guess_3 : List UInt8 := [154, 0, 13, 21, 5, 153, 0, 8, 21, 4, 167, 0, 4, 29, 62, 132, 4, 1, 167, 255, 174, 29, 172]
abbrev dktX6_guess_3 : List UInt8 := dkwX6_guess_3 ++ []
def dkwX6_guess_2 : List UInt8 := [162, 0, 7, 4, 167, 0, 4, 3, 54, 5, 42, 42, 180, 0, 27, 27, 21, 4, 96, 46, 182, 0, 136]
abbrev dktX6_guess_2 : List UInt8 := dkwX6_guess_2 ++ dktX6_guess_3
def dkwX6_guess_1 : List UInt8 := [180, 0, 27, 27, 21, 4, 96, 46, 184, 0, 133, 42, 180, 0, 27, 27, 29, 96, 46, 184, 0, 133]
abbrev dktX6_guess_1 : List UInt8 := dkwX6_guess_1 ++ dktX6_guess_2
def dkwX6_guess_0 : List UInt8 := [2, 62, 3, 54, 4, 21, 4, 42, 182, 0, 66, 162, 0, 79, 29, 2, 159, 0, 33, 28, 154, 0, 33, 42]
abbrev dktX6_guess_0 : List UInt8 := dkwX6_guess_0 ++ dktX6_guess_1
theorem dksX6_guess_0 : cX6_guess.data.toList.drop 0 = dktX6_guess_0 := by decide +kernel
theorem dksX6_guess_1 : cX6_guess.data.toList.drop 24 = dktX6_guess_1 := dk_seg dksX6_guess_0 24 rfl rfl
theorem dksX6_guess_2 : cX6_guess.data.toList.drop 46 = dktX6_guess_2 := dk_seg dksX6_guess_1 22 rfl rfl
theorem dksX6_guess_3 : cX6_guess.data.toList.drop 69 = dktX6_guess_3 := dk_seg dksX6_guess_2 23 rfl rfl
theorem dX6_guess_0 : decode cX6_guess 0 = .ok (.iconst (-1), 1) := dk_2 (dk_at dksX6_guess_0 0 rfl rfl)
theorem dX6_guess_1 : decode cX6_guess 1 = .ok (.istore_n 3, 1) := dk_62 (dk_at dksX6_guess_0 1 rfl rfl)
theorem dX6_guess_2 : decode cX6_guess 2 = .ok (.iconst 0, 1) := dk_3 (dk_at dksX6_guess_0 2 rfl rfl)
theorem dX6_guess_3 : decode cX6_guess 3 = .ok (.istore 4, 2) := dk_54 4 (dk_at dksX6_guess_0 3 rfl rfl)
theorem dX6_guess_5 : decode cX6_guess 5 = .ok (.iload 4, 2) := dk_21 4 (dk_at dksX6_guess_0 5 rfl rfl)
theorem dX6_guess_7 : decode cX6_guess 7 = .ok (.aload_n 0, 1) := dk_42 (dk_at dksX6_guess_0 7 rfl rfl)
theorem dX6_guess_8 : decode cX6_guess 8 = .ok (.invokevirtual 66, 3) := dk_182 0 66 (dk_at dksX6_guess_0 8 rfl rfl)
theorem dX6_guess_11 : decode cX6_guess 11 = .ok (.if_icmp .ge 79, 3) := dk_162 0 79 (dk_at dksX6_guess_0 11 rfl rfl)
theorem dX6_guess_14 : decode cX6_guess 14 = .ok (.iload_n 3, 1) := dk_29 (dk_at dksX6_guess_0 14 rfl rfl)
theorem dX6_guess_15 : decode cX6_guess 15 = .ok (.iconst (-1), 1) := dk_2 (dk_at dksX6_guess_0 15 rfl rfl)
theorem dX6_guess_16 : decode cX6_guess 16 = .ok (.if_icmp .eq 33, 3) := dk_159 0 33 (dk_at dksX6_guess_0 16 rfl rfl)
theorem dX6_guess_19 : decode cX6_guess 19 = .ok (.iload_n 2, 1) := dk_28 (dk_at dksX6_guess_0 19 rfl rfl)
theorem dX6_guess_20 : decode cX6_guess 20 = .ok (.ifCond .ne 33, 3) := dk_154 0 33 (dk_at dksX6_guess_0 20 rfl rfl)
theorem dX6_guess_23 : decode cX6_guess 23 = .ok (.aload_n 0, 1) := dk_42 (dk_at dksX6_guess_0 23 rfl rfl)
theorem dX6_guess_24 : decode cX6_guess 24 = .ok (.getfield 27, 3) := dk_180 0 27 (dk_at dksX6_guess_1 0 rfl rfl)
theorem dX6_guess_27 : decode cX6_guess 27 = .ok (.iload_n 1, 1) := dk_27 (dk_at dksX6_guess_1 3 rfl rfl)
theorem dX6_guess_28 : decode cX6_guess 28 = .ok (.iload 4, 2) := dk_21 4 (dk_at dksX6_guess_1 4 rfl rfl)
theorem dX6_guess_30 : decode cX6_guess 30 = .ok (.iadd, 1) := dk_96 (dk_at dksX6_guess_1 6 rfl rfl)
theorem dX6_guess_31 : decode cX6_guess 31 = .ok (.iaload, 1) := dk_46 (dk_at dksX6_guess_1 7 rfl rfl)
theorem dX6_guess_32 : decode cX6_guess 32 = .ok (.invokestatic 133, 3) := dk_184 0 133 (dk_at dksX6_guess_1 8 rfl rfl)
theorem dX6_guess_35 : decode cX6_guess 35 = .ok (.aload_n 0, 1) := dk_42 (dk_at dksX6_guess_1 11 rfl rfl)
theorem dX6_guess_36 : decode cX6_guess 36 = .ok (.getfield 27, 3) := dk_180 0 27 (dk_at dksX6_guess_1 12 rfl rfl)
theorem dX6_guess_39 : decode cX6_guess 39 = .ok (.iload_n 1, 1) := dk_27 (dk_at dksX6_guess_1 15 rfl rfl)
theorem dX6_guess_40 : decode cX6_guess 40 = .ok (.iload_n 3, 1) := dk_29 (dk_at dksX6_guess_1 16 rfl rfl)
theorem dX6_guess_41 : decode cX6_guess 41 = .ok (.iadd, 1) := dk_96 (dk_at dksX6_guess_1 17 rfl rfl)
theorem dX6_guess_42 : decode cX6_guess 42 = .ok (.iaload, 1) := dk_46 (dk_at dksX6_guess_1 18 rfl rfl)
theorem dX6_guess_43 : decode cX6_guess 43 = .ok (.invokestatic 133, 3) := dk_184 0 133 (dk_at dksX6_guess_1 19 rfl rfl)
theorem dX6_guess_46 : decode cX6_guess 46 = .ok (.if_icmp .ge 7, 3) := dk_162 0 7 (dk_at dksX6_guess_2 0 rfl rfl)
theorem dX6_guess_49 : decode cX6_guess 49 = .ok (.iconst 1, 1) := dk_4 (dk_at dksX6_guess_2 3 rfl rfl)
theorem dX6_guess_50 : decode cX6_guess 50 = .ok (.goto 4, 3) := dk_167 0 4 (dk_at dksX6_guess_2 4 rfl rfl)
theorem dX6_guess_53 : decode cX6_guess 53 = .ok (.iconst 0, 1) := dk_3 (dk_at dksX6_guess_2 7 rfl rfl)
theorem dX6_guess_54 : decode cX6_guess 54 = .ok (.istore 5, 2) := dk_54 5 (dk_at dksX6_guess_2 8 rfl rfl)
theorem dX6_guess_56 : decode cX6_guess 56 = .ok (.aload_n 0, 1) := dk_42 (dk_at dksX6_guess_2 10 rfl rfl)
theorem dX6_guess_57 : decode cX6_guess 57 = .ok (.aload_n 0, 1) := dk_42 (dk_at dksX6_guess_2 11 rfl rfl)
theorem dX6_guess_58 : decode cX6_guess 58 = .ok (.getfield 27, 3) := dk_180 0 27 (dk_at dksX6_guess_2 12 rfl rfl)
theorem dX6_guess_61 : decode cX6_guess 61 = .ok (.iload_n 1, 1) := dk_27 (dk_at dksX6_guess_2 15 rfl rfl)
theorem dX6_guess_62 : decode cX6_guess 62 = .ok (.iload 4, 2) := dk_21 4 (dk_at dksX6_guess_2 16 rfl rfl)
theorem dX6_guess_64 : decode cX6_guess 64 = .ok (.iadd, 1) := dk_96 (dk_at dksX6_guess_2 18 rfl rfl)
theorem dX6_guess_65 : decode cX6_guess 65 = .ok (.iaload, 1) := dk_46 (dk_at dksX6_guess_2 19 rfl rfl)
theorem dX6_guess_66 : decode cX6_guess 66 = .ok (.invokevirtual 136, 3) := dk_182 0 136 (dk_at dksX6_guess_2 20 rfl rfl)
theorem dX6_guess_69 : decode cX6_guess 69 = .ok (.ifCond .ne 13, 3) := dk_154 0 13 (dk_at dksX6_guess_3 0 rfl rfl)
theorem dX6_guess_72 : decode cX6_guess 72 = .ok (.iload 5, 2) := dk_21 5 (dk_at dksX6_guess_3 3 rfl rfl)
theorem dX6_guess_74 : decode cX6_guess 74 = .ok (.ifCond .eq 8, 3) := dk_153 0 8 (dk_at dksX6_guess_3 5 rfl rfl)
theorem dX6_guess_77 : decode cX6_guess 77 = .ok (.iload 4, 2) := dk_21 4 (dk_at dksX6_guess_3 8 rfl rfl)
theorem dX6_guess_79 : decode cX6_guess 79 = .ok (.goto 4, 3) := dk_167 0 4 (dk_at dksX6_guess_3 10 rfl rfl)
theorem dX6_guess_82 : decode cX6_guess 82 = .ok (.iload_n 3, 1) := dk_29 (dk_at dksX6_guess_3 13 rfl rfl)
theorem dX6_guess_83 : decode cX6_guess 83 = .ok (.istore_n 3, 1) := dk_62 (dk_at dksX6_guess_3 14 rfl rfl)
theorem dX6_guess_84 : decode cX6_guess 84 = .ok (.iinc 4 1, 3) := dk_132 4 1 (dk_at dksX6_guess_3 15 rfl rfl)
theorem dX6_guess_87 : decode cX6_guess 87 = .ok (.goto (-82), 3) := dk_167 255 174 (dk_at dksX6_guess_3 18 rfl rfl)
theorem dX6_guess_90 : decode cX6_guess 90 = .ok (.iload_n 3, 1) := dk_29 (dk_at dksX6_guess_3 21 rfl rfl)
theorem dX6_guess_91 : decode cX6_guess 91 = .ok (.ireturn, 1) := dk_172 (dk_at dksX6_guess_3 22 rfl rfl)
abbrev cX6_solutionCountByRows : ByteArray := prog_10_method_101_code
def yX6_solutionCountByRows : MethodName := ⟨RX6, "solutionCountByRows", "()I"⟩
def dkwX6_solutionCountByRows_0 : List UInt8 := [42, 42, 182, 1, 22, 182, 0, 242, 172]
abbrev dktX6_solutionCountByRows_0 : List UInt8 := dkwX6_solutionCountByRows_0 ++ []
theorem dksX6_solutionCountByRows_0 : cX6_solutionCountByRows.data.toList.drop 0 = dktX6_solutionCountByRows_0 := by decide +kernel
theorem dX6_solutionCountByRows_0 : decode cX6_solutionCountByRows 0 = .ok (.aload_n 0, 1) := dk_42 (dk_at dksX6_solutionCountByRows_0 0 rfl rfl)
theorem dX6_solutionCountByRows_1 : decode cX6_solutionCountByRows 1 = .ok (.aload_n 0, 1) := dk_42 (dk_at dksX6_solutionCountByRows_0 1 rfl rfl)
theorem dX6_solutionCountByRows_2 : decode cX6_solutionCountByRows 2 = .ok (.invokevirtual 278, 3) := dk_182 1 22 (dk_at dksX6_solutionCountByRows_0 2 rfl rfl)
theorem dX6_solutionCountByRows_5 : decode cX6_solutionCountByRows 5 = .ok (.invokevirtual 242, 3) := dk_182 0 242 (dk_at dksX6_solutionCountByRows_0 5 rfl rfl)
theorem dX6_solutionCountByRows_8 : decode cX6_solutionCountByRows 8 = .ok (.ireturn, 1) := dk_172 (dk_at dksX6_solutionCountByRows_0 8 rfl rfl)
abbrev cX6_solutionsByRows : ByteArray := prog_10_method_57_code
def yX6_solutionsByRows : MethodName := ⟨RX6, "solutionsByRows", "()I"⟩
def dkwX6_solutionsByRows_5 : List UInt8 := [132, 1, 1, 167, 0, 13, 132, 2, 1, 42, 180, 0, 39, 28, 2, 79, 167, 255, 153, 27, 172]
abbrev dktX6_solutionsByRows_5 : List UInt8 := dkwX6_solutionsByRows_5 ++ []
def dkwX6_solutionsByRows_4 : List UInt8 := [180, 0, 93, 160, 0, 9, 132, 2, 255, 167, 0, 31, 28, 42, 180, 0, 7, 3, 46, 4, 100, 160, 0, 9]
abbrev dktX6_solutionsByRows_4 : List UInt8 := dkwX6_solutionsByRows_4 ++ dktX6_solutionsByRows_5
def dkwX6_solutionsByRows_3 : List UInt8 := [28, 29, 182, 0, 207, 154, 0, 9, 132, 3, 1, 167, 255, 225, 42, 180, 0, 39, 28, 29, 79, 29, 42]
abbrev dktX6_solutionsByRows_3 : List UInt8 := dkwX6_solutionsByRows_3 ++ dktX6_solutionsByRows_4
def dkwX6_solutionsByRows_2 : List UInt8 := [46, 4, 96, 62, 29, 42, 180, 0, 93, 162, 0, 29, 42, 16, 50, 28, 29, 182, 0, 116, 153, 0, 12, 42]
abbrev dktX6_solutionsByRows_2 : List UInt8 := dkwX6_solutionsByRows_2 ++ dktX6_solutionsByRows_3
def dkwX6_solutionsByRows_1 : List UInt8 := [61, 42, 180, 0, 39, 3, 2, 79, 28, 155, 0, 105, 27, 17, 0, 200, 162, 0, 98, 42, 180, 0, 39, 28]
abbrev dktX6_solutionsByRows_1 : List UInt8 := dkwX6_solutionsByRows_1 ++ dktX6_solutionsByRows_2
def dkwX6_solutionsByRows_0 : List UInt8 := [42, 16, 50, 182, 0, 126, 42, 16, 50, 42, 182, 0, 188, 182, 0, 164, 154, 0, 5, 3, 172, 3, 60, 3]
abbrev dktX6_solutionsByRows_0 : List UInt8 := dkwX6_solutionsByRows_0 ++ dktX6_solutionsByRows_1
theorem dksX6_solutionsByRows_0 : cX6_solutionsByRows.data.toList.drop 0 = dktX6_solutionsByRows_0 := by decide +kernel
theorem dksX6_solutionsByRows_1 : cX6_solutionsByRows.data.toList.drop 24 = dktX6_solutionsByRows_1 := dk_seg dksX6_solutionsByRows_0 24 rfl rfl
theorem dksX6_solutionsByRows_2 : cX6_solutionsByRows.data.toList.drop 48 = dktX6_solutionsByRows_2 := dk_seg dksX6_solutionsByRows_1 24 rfl rfl
theorem dksX6_solutionsByRows_3 : cX6_solutionsByRows.data.toList.drop 72 = dktX6_solutionsByRows_3 := dk_seg dksX6_solutionsByRows_2 24 rfl rfl
theorem dksX6_solutionsByRows_4 : cX6_solutionsByRows.data.toList.drop 95 = dktX6_solutionsByRows_4 := dk_seg dksX6_solutionsByRows_3 23 rfl rfl
theorem dksX6_solutionsByRows_5 : cX6_solutionsByRows.data.toList.drop 119 = dktX6_solutionsByRows_5 := dk_seg dksX6_solutionsByRows_4 24 rfl rfl
theorem dX6_solutionsByRows_0 : decode cX6_solutionsByRows 0 = .ok (.aload_n 0, 1) := dk_42 (dk_at dksX6_solutionsByRows_0 0 rfl rfl)
theorem dX6_solutionsByRows_1 : decode cX6_solutionsByRows 1 = .ok (.bipush 50, 2) := dk_16 50 (dk_at dksX6_solutionsByRows_0 1 rfl rfl)
theorem dX6_solutionsByRows_3 : decode cX6_solutionsByRows 3 = .ok (.invokevirtual 126, 3) := dk_182 0 126 (dk_at dksX6_solutionsByRows_0 3 rfl rfl)
theorem dX6_solutionsByRows_6 : decode cX6_solutionsByRows 6 = .ok (.aload_n 0, 1) := dk_42 (dk_at dksX6_solutionsByRows_0 6 rfl rfl)
theorem dX6_solutionsByRows_7 : decode cX6_solutionsByRows 7 = .ok (.bipush 50, 2) := dk_16 50 (dk_at dksX6_solutionsByRows_0 7 rfl rfl)
theorem dX6_solutionsByRows_9 : decode cX6_solutionsByRows 9 = .ok (.aload_n 0, 1) := dk_42 (dk_at dksX6_solutionsByRows_0 9 rfl rfl)
theorem dX6_solutionsByRows_10 : decode cX6_solutionsByRows 10 = .ok (.invokevirtual 188, 3) := dk_182 0 188 (dk_at dksX6_solutionsByRows_0 10 rfl rfl)
theorem dX6_solutionsByRows_13 : decode cX6_solutionsByRows 13 = .ok (.invokevirtual 164, 3) := dk_182 0 164 (dk_at dksX6_solutionsByRows_0 13 rfl rfl)
theorem dX6_solutionsByRows_16 : decode cX6_solutionsByRows 16 = .ok (.ifCond .ne 5, 3) := dk_154 0 5 (dk_at dksX6_solutionsByRows_0 16 rfl rfl)
theorem dX6_solutionsByRows_19 : decode cX6_solutionsByRows 19 = .ok (.iconst 0, 1) := dk_3 (dk_at dksX6_solutionsByRows_0 19 rfl rfl)
theorem dX6_solutionsByRows_20 : decode cX6_solutionsByRows 20 = .ok (.ireturn, 1) := dk_172 (dk_at dksX6_solutionsByRows_0 20 rfl rfl)
theorem dX6_solutionsByRows_21 : decode cX6_solutionsByRows 21 = .ok (.iconst 0, 1) := dk_3 (dk_at dksX6_solutionsByRows_0 21 rfl rfl)
theorem dX6_solutionsByRows_22 : decode cX6_solutionsByRows 22 = .ok (.istore_n 1, 1) := dk_60 (dk_at dksX6_solutionsByRows_0 22 rfl rfl)
theorem dX6_solutionsByRows_23 : decode cX6_solutionsByRows 23 = .ok (.iconst 0, 1) := dk_3 (dk_at dksX6_solutionsByRows_0 23 rfl rfl)
theorem dX6_solutionsByRows_24 : decode cX6_solutionsByRows 24 = .ok (.istore_n 2, 1) := dk_61 (dk_at dksX6_solutionsByRows_1 0 rfl rfl)
theorem dX6_solutionsByRows_25 : decode cX6_solutionsByRows 25 = .ok (.aload_n 0, 1) := dk_42 (dk_at dksX6_solutionsByRows_1 1 rfl rfl)
theorem dX6_solutionsByRows_26 : decode cX6_solutionsByRows 26 = .ok (.getfield 39, 3) := dk_180 0 39 (dk_at dksX6_solutionsByRows_1 2 rfl rfl)
theorem dX6_solutionsByRows_29 : decode cX6_solutionsByRows 29 = .ok (.iconst 0, 1) := dk_3 (dk_at dksX6_solutionsByRows_1 5 rfl rfl)
theorem dX6_solutionsByRows_30 : decode cX6_solutionsByRows 30 = .ok (.iconst (-1), 1) := dk_2 (dk_at dksX6_solutionsByRows_1 6 rfl rfl)
theorem dX6_solutionsByRows_31 : decode cX6_solutionsByRows 31 = .ok (.iastore, 1) := dk_79 (dk_at dksX6_solutionsByRows_1 7 rfl rfl)
theorem dX6_solutionsByRows_32 : decode cX6_solutionsByRows 32 = .ok (.iload_n 2, 1) := dk_28 (dk_at dksX6_solutionsByRows_1 8 rfl rfl)
theorem dX6_solutionsByRows_33 : decode cX6_solutionsByRows 33 = .ok (.ifCond .lt 105, 3) := dk_155 0 105 (dk_at dksX6_solutionsByRows_1 9 rfl rfl)
theorem dX6_solutionsByRows_36 : decode cX6_solutionsByRows 36 = .ok (.iload_n 1, 1) := dk_27 (dk_at dksX6_solutionsByRows_1 12 rfl rfl)
theorem dX6_solutionsByRows_37 : decode cX6_solutionsByRows 37 = .ok (.sipush 200, 3) := dk_17 0 200 (dk_at dksX6_solutionsByRows_1 13 rfl rfl)
theorem dX6_solutionsByRows_40 : decode cX6_solutionsByRows 40 = .ok (.if_icmp .ge 98, 3) := dk_162 0 98 (dk_at dksX6_solutionsByRows_1 16 rfl rfl)
theorem dX6_solutionsByRows_43 : decode cX6_solutionsByRows 43 = .ok (.aload_n 0, 1) := dk_42 (dk_at dksX6_solutionsByRows_1 19 rfl rfl)
theorem dX6_solutionsByRows_44 : decode cX6_solutionsByRows 44 = .ok (.getfield 39, 3) := dk_180 0 39 (dk_at dksX6_solutionsByRows_1 20 rfl rfl)
theorem dX6_solutionsByRows_47 : decode cX6_solutionsByRows 47 = .ok (.iload_n 2, 1) := dk_28 (dk_at dksX6_solutionsByRows_1 23 rfl rfl)
theorem dX6_solutionsByRows_48 : decode cX6_solutionsByRows 48 = .ok (.iaload, 1) := dk_46 (dk_at dksX6_solutionsByRows_2 0 rfl rfl)
theorem dX6_solutionsByRows_49 : decode cX6_solutionsByRows 49 = .ok (.iconst 1, 1) := dk_4 (dk_at dksX6_solutionsByRows_2 1 rfl rfl)
theorem dX6_solutionsByRows_50 : decode cX6_solutionsByRows 50 = .ok (.iadd, 1) := dk_96 (dk_at dksX6_solutionsByRows_2 2 rfl rfl)
theorem dX6_solutionsByRows_51 : decode cX6_solutionsByRows 51 = .ok (.istore_n 3, 1) := dk_62 (dk_at dksX6_solutionsByRows_2 3 rfl rfl)
theorem dX6_solutionsByRows_52 : decode cX6_solutionsByRows 52 = .ok (.iload_n 3, 1) := dk_29 (dk_at dksX6_solutionsByRows_2 4 rfl rfl)
theorem dX6_solutionsByRows_53 : decode cX6_solutionsByRows 53 = .ok (.aload_n 0, 1) := dk_42 (dk_at dksX6_solutionsByRows_2 5 rfl rfl)
theorem dX6_solutionsByRows_54 : decode cX6_solutionsByRows 54 = .ok (.getfield 93, 3) := dk_180 0 93 (dk_at dksX6_solutionsByRows_2 6 rfl rfl)
theorem dX6_solutionsByRows_57 : decode cX6_solutionsByRows 57 = .ok (.if_icmp .ge 29, 3) := dk_162 0 29 (dk_at dksX6_solutionsByRows_2 9 rfl rfl)
theorem dX6_solutionsByRows_60 : decode cX6_solutionsByRows 60 = .ok (.aload_n 0, 1) := dk_42 (dk_at dksX6_solutionsByRows_2 12 rfl rfl)
theorem dX6_solutionsByRows_61 : decode cX6_solutionsByRows 61 = .ok (.bipush 50, 2) := dk_16 50 (dk_at dksX6_solutionsByRows_2 13 rfl rfl)
theorem dX6_solutionsByRows_63 : decode cX6_solutionsByRows 63 = .ok (.iload_n 2, 1) := dk_28 (dk_at dksX6_solutionsByRows_2 15 rfl rfl)
theorem dX6_solutionsByRows_64 : decode cX6_solutionsByRows 64 = .ok (.iload_n 3, 1) := dk_29 (dk_at dksX6_solutionsByRows_2 16 rfl rfl)
theorem dX6_solutionsByRows_65 : decode cX6_solutionsByRows 65 = .ok (.invokevirtual 116, 3) := dk_182 0 116 (dk_at dksX6_solutionsByRows_2 17 rfl rfl)
theorem dX6_solutionsByRows_68 : decode cX6_solutionsByRows 68 = .ok (.ifCond .eq 12, 3) := dk_153 0 12 (dk_at dksX6_solutionsByRows_2 20 rfl rfl)
theorem dX6_solutionsByRows_71 : decode cX6_solutionsByRows 71 = .ok (.aload_n 0, 1) := dk_42 (dk_at dksX6_solutionsByRows_2 23 rfl rfl)
theorem dX6_solutionsByRows_72 : decode cX6_solutionsByRows 72 = .ok (.iload_n 2, 1) := dk_28 (dk_at dksX6_solutionsByRows_3 0 rfl rfl)
theorem dX6_solutionsByRows_73 : decode cX6_solutionsByRows 73 = .ok (.iload_n 3, 1) := dk_29 (dk_at dksX6_solutionsByRows_3 1 rfl rfl)
theorem dX6_solutionsByRows_74 : decode cX6_solutionsByRows 74 = .ok (.invokevirtual 207, 3) := dk_182 0 207 (dk_at dksX6_solutionsByRows_3 2 rfl rfl)
theorem dX6_solutionsByRows_77 : decode cX6_solutionsByRows 77 = .ok (.ifCond .ne 9, 3) := dk_154 0 9 (dk_at dksX6_solutionsByRows_3 5 rfl rfl)
theorem dX6_solutionsByRows_80 : decode cX6_solutionsByRows 80 = .ok (.iinc 3 1, 3) := dk_132 3 1 (dk_at dksX6_solutionsByRows_3 8 rfl rfl)
theorem dX6_solutionsByRows_83 : decode cX6_solutionsByRows 83 = .ok (.goto (-31), 3) := dk_167 255 225 (dk_at dksX6_solutionsByRows_3 11 rfl rfl)
theorem dX6_solutionsByRows_86 : decode cX6_solutionsByRows 86 = .ok (.aload_n 0, 1) := dk_42 (dk_at dksX6_solutionsByRows_3 14 rfl rfl)
theorem dX6_solutionsByRows_87 : decode cX6_solutionsByRows 87 = .ok (.getfield 39, 3) := dk_180 0 39 (dk_at dksX6_solutionsByRows_3 15 rfl rfl)
theorem dX6_solutionsByRows_90 : decode cX6_solutionsByRows 90 = .ok (.iload_n 2, 1) := dk_28 (dk_at dksX6_solutionsByRows_3 18 rfl rfl)
theorem dX6_solutionsByRows_91 : decode cX6_solutionsByRows 91 = .ok (.iload_n 3, 1) := dk_29 (dk_at dksX6_solutionsByRows_3 19 rfl rfl)
theorem dX6_solutionsByRows_92 : decode cX6_solutionsByRows 92 = .ok (.iastore, 1) := dk_79 (dk_at dksX6_solutionsByRows_3 20 rfl rfl)
theorem dX6_solutionsByRows_93 : decode cX6_solutionsByRows 93 = .ok (.iload_n 3, 1) := dk_29 (dk_at dksX6_solutionsByRows_3 21 rfl rfl)
theorem dX6_solutionsByRows_94 : decode cX6_solutionsByRows 94 = .ok (.aload_n 0, 1) := dk_42 (dk_at dksX6_solutionsByRows_3 22 rfl rfl)
theorem dX6_solutionsByRows_95 : decode cX6_solutionsByRows 95 = .ok (.getfield 93, 3) := dk_180 0 93 (dk_at dksX6_solutionsByRows_4 0 rfl rfl)
theorem dX6_solutionsByRows_98 : decode cX6_solutionsByRows 98 = .ok (.if_icmp .ne 9, 3) := dk_160 0 9 (dk_at dksX6_solutionsByRows_4 3 rfl rfl)
theorem dX6_solutionsByRows_101 : decode cX6_solutionsByRows 101 = .ok (.iinc 2 (-1), 3) := dk_132 2 255 (dk_at dksX6_solutionsByRows_4 6 rfl rfl)
theorem dX6_solutionsByRows_104 : decode cX6_solutionsByRows 104 = .ok (.goto 31, 3) := dk_167 0 31 (dk_at dksX6_solutionsByRows_4 9 rfl rfl)
theorem dX6_solutionsByRows_107 : decode cX6_solutionsByRows 107 = .ok (.iload_n 2, 1) := dk_28 (dk_at dksX6_solutionsByRows_4 12 rfl rfl)
theorem dX6_solutionsByRows_108 : decode cX6_solutionsByRows 108 = .ok (.aload_n 0, 1) := dk_42 (dk_at dksX6_solutionsByRows_4 13 rfl rfl)
theorem dX6_solutionsByRows_109 : decode cX6_solutionsByRows 109 = .ok (.getfield 7, 3) := dk_180 0 7 (dk_at dksX6_solutionsByRows_4 14 rfl rfl)
theorem dX6_solutionsByRows_112 : decode cX6_solutionsByRows 112 = .ok (.iconst 0, 1) := dk_3 (dk_at dksX6_solutionsByRows_4 17 rfl rfl)
theorem dX6_solutionsByRows_113 : decode cX6_solutionsByRows 113 = .ok (.iaload, 1) := dk_46 (dk_at dksX6_solutionsByRows_4 18 rfl rfl)
theorem dX6_solutionsByRows_114 : decode cX6_solutionsByRows 114 = .ok (.iconst 1, 1) := dk_4 (dk_at dksX6_solutionsByRows_4 19 rfl rfl)
theorem dX6_solutionsByRows_115 : decode cX6_solutionsByRows 115 = .ok (.isub, 1) := dk_100 (dk_at dksX6_solutionsByRows_4 20 rfl rfl)
theorem dX6_solutionsByRows_116 : decode cX6_solutionsByRows 116 = .ok (.if_icmp .ne 9, 3) := dk_160 0 9 (dk_at dksX6_solutionsByRows_4 21 rfl rfl)
theorem dX6_solutionsByRows_119 : decode cX6_solutionsByRows 119 = .ok (.iinc 1 1, 3) := dk_132 1 1 (dk_at dksX6_solutionsByRows_5 0 rfl rfl)
theorem dX6_solutionsByRows_122 : decode cX6_solutionsByRows 122 = .ok (.goto 13, 3) := dk_167 0 13 (dk_at dksX6_solutionsByRows_5 3 rfl rfl)
theorem dX6_solutionsByRows_125 : decode cX6_solutionsByRows 125 = .ok (.iinc 2 1, 3) := dk_132 2 1 (dk_at dksX6_solutionsByRows_5 6 rfl rfl)
theorem dX6_solutionsByRows_128 : decode cX6_solutionsByRows 128 = .ok (.aload_n 0, 1) := dk_42 (dk_at dksX6_solutionsByRows_5 9 rfl rfl)
theorem dX6_solutionsByRows_129 : decode cX6_solutionsByRows 129 = .ok (.getfield 39, 3) := dk_180 0 39 (dk_at dksX6_solutionsByRows_5 10 rfl rfl)
theorem dX6_solutionsByRows_132 : decode cX6_solutionsByRows 132 = .ok (.iload_n 2, 1) := dk_28 (dk_at dksX6_solutionsByRows_5 13 rfl rfl)
theorem dX6_solutionsByRows_133 : decode cX6_solutionsByRows 133 = .ok (.iconst (-1), 1) := dk_2 (dk_at dksX6_solutionsByRows_5 14 rfl rfl)
theorem dX6_solutionsByRows_134 : decode cX6_solutionsByRows 134 = .ok (.iastore, 1) := dk_79 (dk_at dksX6_solutionsByRows_5 15 rfl rfl)
theorem dX6_solutionsByRows_135 : decode cX6_solutionsByRows 135 = .ok (.goto (-103), 3) := dk_167 255 153 (dk_at dksX6_solutionsByRows_5 16 rfl rfl)
theorem dX6_solutionsByRows_138 : decode cX6_solutionsByRows 138 = .ok (.iload_n 1, 1) := dk_27 (dk_at dksX6_solutionsByRows_5 19 rfl rfl)
theorem dX6_solutionsByRows_139 : decode cX6_solutionsByRows 139 = .ok (.ireturn, 1) := dk_172 (dk_at dksX6_solutionsByRows_5 20 rfl rfl)
abbrev cX6_stands : ByteArray := prog_10_method_54_code
def yX6_stands : MethodName := ⟨RX6, "stands", "(II)Z"⟩
def dkwX6_stands_8 : List UInt8 := [182, 0, 203, 153, 0, 17, 42, 27, 28, 3, 182, 0, 203, 153, 0, 7, 4, 167, 0, 4, 3, 172]
abbrev dktX6_stands_8 : List UInt8 := dkwX6_stands_8 ++ []
def dkwX6_stands_7 : List UInt8 := [154, 0, 5, 3, 172, 132, 5, 1, 167, 255, 103, 42, 180, 0, 7, 5, 46, 153, 0, 23, 42, 27, 28, 4]
abbrev dktX6_stands_7 : List UInt8 := dkwX6_stands_7 ++ dktX6_stands_8
def dkwX6_stands_6 : List UInt8 := [153, 0, 27, 42, 29, 21, 5, 96, 4, 182, 0, 106, 21, 7, 21, 4, 4, 100, 21, 8, 100, 184, 0, 200]
abbrev dktX6_stands_6 : List UInt8 := dkwX6_stands_6 ++ dktX6_stands_7
def dkwX6_stands_5 : List UInt8 := [184, 0, 102, 154, 0, 46, 42, 29, 21, 5, 96, 3, 182, 0, 106, 21, 7, 21, 8, 184, 0, 200]
abbrev dktX6_stands_5 : List UInt8 := dkwX6_stands_5 ++ dktX6_stands_6
def dkwX6_stands_4 : List UInt8 := [21, 4, 160, 0, 16, 27, 21, 8, 100, 29, 21, 4, 100, 161, 0, 60, 3, 172, 21, 6, 21, 7]
abbrev dktX6_stands_4 : List UInt8 := dkwX6_stands_4 ++ dktX6_stands_5
def dkwX6_stands_3 : List UInt8 := [104, 21, 5, 96, 46, 54, 7, 21, 6, 4, 21, 4, 120, 4, 100, 126, 184, 0, 133, 54, 8, 21, 7]
abbrev dktX6_stands_3 : List UInt8 := dkwX6_stands_3 ++ dktX6_stands_4
def dkwX6_stands_2 : List UInt8 := [21, 7, 46, 104, 21, 5, 96, 46, 120, 128, 54, 6, 132, 7, 1, 167, 255, 223, 42, 180, 0, 21, 8, 28]
abbrev dktX6_stands_2 : List UInt8 := dkwX6_stands_2 ++ dktX6_stands_3
def dkwX6_stands_1 : List UInt8 := [3, 54, 6, 3, 54, 7, 21, 7, 27, 162, 0, 33, 21, 6, 4, 42, 180, 0, 21, 8, 42, 180, 0, 39]
abbrev dktX6_stands_1 : List UInt8 := dkwX6_stands_1 ++ dktX6_stands_2
def dkwX6_stands_0 : List UInt8 := [42, 180, 0, 7, 3, 46, 62, 42, 180, 0, 7, 4, 46, 54, 4, 3, 54, 5, 21, 5, 29, 162, 0, 153]
abbrev dktX6_stands_0 : List UInt8 := dkwX6_stands_0 ++ dktX6_stands_1
theorem dksX6_stands_0 : cX6_stands.data.toList.drop 0 = dktX6_stands_0 := by decide +kernel
theorem dksX6_stands_1 : cX6_stands.data.toList.drop 24 = dktX6_stands_1 := dk_seg dksX6_stands_0 24 rfl rfl
theorem dksX6_stands_2 : cX6_stands.data.toList.drop 48 = dktX6_stands_2 := dk_seg dksX6_stands_1 24 rfl rfl
theorem dksX6_stands_3 : cX6_stands.data.toList.drop 72 = dktX6_stands_3 := dk_seg dksX6_stands_2 24 rfl rfl
theorem dksX6_stands_4 : cX6_stands.data.toList.drop 95 = dktX6_stands_4 := dk_seg dksX6_stands_3 23 rfl rfl
theorem dksX6_stands_5 : cX6_stands.data.toList.drop 117 = dktX6_stands_5 := dk_seg dksX6_stands_4 22 rfl rfl
theorem dksX6_stands_6 : cX6_stands.data.toList.drop 139 = dktX6_stands_6 := dk_seg dksX6_stands_5 22 rfl rfl
theorem dksX6_stands_7 : cX6_stands.data.toList.drop 163 = dktX6_stands_7 := dk_seg dksX6_stands_6 24 rfl rfl
theorem dksX6_stands_8 : cX6_stands.data.toList.drop 187 = dktX6_stands_8 := dk_seg dksX6_stands_7 24 rfl rfl
theorem dX6_stands_0 : decode cX6_stands 0 = .ok (.aload_n 0, 1) := dk_42 (dk_at dksX6_stands_0 0 rfl rfl)
theorem dX6_stands_1 : decode cX6_stands 1 = .ok (.getfield 7, 3) := dk_180 0 7 (dk_at dksX6_stands_0 1 rfl rfl)
theorem dX6_stands_4 : decode cX6_stands 4 = .ok (.iconst 0, 1) := dk_3 (dk_at dksX6_stands_0 4 rfl rfl)
theorem dX6_stands_5 : decode cX6_stands 5 = .ok (.iaload, 1) := dk_46 (dk_at dksX6_stands_0 5 rfl rfl)
theorem dX6_stands_6 : decode cX6_stands 6 = .ok (.istore_n 3, 1) := dk_62 (dk_at dksX6_stands_0 6 rfl rfl)
theorem dX6_stands_7 : decode cX6_stands 7 = .ok (.aload_n 0, 1) := dk_42 (dk_at dksX6_stands_0 7 rfl rfl)
theorem dX6_stands_8 : decode cX6_stands 8 = .ok (.getfield 7, 3) := dk_180 0 7 (dk_at dksX6_stands_0 8 rfl rfl)
theorem dX6_stands_11 : decode cX6_stands 11 = .ok (.iconst 1, 1) := dk_4 (dk_at dksX6_stands_0 11 rfl rfl)
theorem dX6_stands_12 : decode cX6_stands 12 = .ok (.iaload, 1) := dk_46 (dk_at dksX6_stands_0 12 rfl rfl)
theorem dX6_stands_13 : decode cX6_stands 13 = .ok (.istore 4, 2) := dk_54 4 (dk_at dksX6_stands_0 13 rfl rfl)
theorem dX6_stands_15 : decode cX6_stands 15 = .ok (.iconst 0, 1) := dk_3 (dk_at dksX6_stands_0 15 rfl rfl)
theorem dX6_stands_16 : decode cX6_stands 16 = .ok (.istore 5, 2) := dk_54 5 (dk_at dksX6_stands_0 16 rfl rfl)
theorem dX6_stands_18 : decode cX6_stands 18 = .ok (.iload 5, 2) := dk_21 5 (dk_at dksX6_stands_0 18 rfl rfl)
theorem dX6_stands_20 : decode cX6_stands 20 = .ok (.iload_n 3, 1) := dk_29 (dk_at dksX6_stands_0 20 rfl rfl)
theorem dX6_stands_21 : decode cX6_stands 21 = .ok (.if_icmp .ge 153, 3) := dk_162 0 153 (dk_at dksX6_stands_0 21 rfl rfl)
theorem dX6_stands_24 : decode cX6_stands 24 = .ok (.iconst 0, 1) := dk_3 (dk_at dksX6_stands_1 0 rfl rfl)
theorem dX6_stands_25 : decode cX6_stands 25 = .ok (.istore 6, 2) := dk_54 6 (dk_at dksX6_stands_1 1 rfl rfl)
theorem dX6_stands_27 : decode cX6_stands 27 = .ok (.iconst 0, 1) := dk_3 (dk_at dksX6_stands_1 3 rfl rfl)
theorem dX6_stands_28 : decode cX6_stands 28 = .ok (.istore 7, 2) := dk_54 7 (dk_at dksX6_stands_1 4 rfl rfl)
theorem dX6_stands_30 : decode cX6_stands 30 = .ok (.iload 7, 2) := dk_21 7 (dk_at dksX6_stands_1 6 rfl rfl)
theorem dX6_stands_32 : decode cX6_stands 32 = .ok (.iload_n 1, 1) := dk_27 (dk_at dksX6_stands_1 8 rfl rfl)
theorem dX6_stands_33 : decode cX6_stands 33 = .ok (.if_icmp .ge 33, 3) := dk_162 0 33 (dk_at dksX6_stands_1 9 rfl rfl)
theorem dX6_stands_36 : decode cX6_stands 36 = .ok (.iload 6, 2) := dk_21 6 (dk_at dksX6_stands_1 12 rfl rfl)
theorem dX6_stands_38 : decode cX6_stands 38 = .ok (.iconst 1, 1) := dk_4 (dk_at dksX6_stands_1 14 rfl rfl)
theorem dX6_stands_39 : decode cX6_stands 39 = .ok (.aload_n 0, 1) := dk_42 (dk_at dksX6_stands_1 15 rfl rfl)
theorem dX6_stands_40 : decode cX6_stands 40 = .ok (.getfield 21, 3) := dk_180 0 21 (dk_at dksX6_stands_1 16 rfl rfl)
theorem dX6_stands_43 : decode cX6_stands 43 = .ok (.iconst 5, 1) := dk_8 (dk_at dksX6_stands_1 19 rfl rfl)
theorem dX6_stands_44 : decode cX6_stands 44 = .ok (.aload_n 0, 1) := dk_42 (dk_at dksX6_stands_1 20 rfl rfl)
theorem dX6_stands_45 : decode cX6_stands 45 = .ok (.getfield 39, 3) := dk_180 0 39 (dk_at dksX6_stands_1 21 rfl rfl)
theorem dX6_stands_48 : decode cX6_stands 48 = .ok (.iload 7, 2) := dk_21 7 (dk_at dksX6_stands_2 0 rfl rfl)
theorem dX6_stands_50 : decode cX6_stands 50 = .ok (.iaload, 1) := dk_46 (dk_at dksX6_stands_2 2 rfl rfl)
theorem dX6_stands_51 : decode cX6_stands 51 = .ok (.imul, 1) := dk_104 (dk_at dksX6_stands_2 3 rfl rfl)
theorem dX6_stands_52 : decode cX6_stands 52 = .ok (.iload 5, 2) := dk_21 5 (dk_at dksX6_stands_2 4 rfl rfl)
theorem dX6_stands_54 : decode cX6_stands 54 = .ok (.iadd, 1) := dk_96 (dk_at dksX6_stands_2 6 rfl rfl)
theorem dX6_stands_55 : decode cX6_stands 55 = .ok (.iaload, 1) := dk_46 (dk_at dksX6_stands_2 7 rfl rfl)
theorem dX6_stands_56 : decode cX6_stands 56 = .ok (.ishl, 1) := dk_120 (dk_at dksX6_stands_2 8 rfl rfl)
theorem dX6_stands_57 : decode cX6_stands 57 = .ok (.ior, 1) := dk_128 (dk_at dksX6_stands_2 9 rfl rfl)
theorem dX6_stands_58 : decode cX6_stands 58 = .ok (.istore 6, 2) := dk_54 6 (dk_at dksX6_stands_2 10 rfl rfl)
theorem dX6_stands_60 : decode cX6_stands 60 = .ok (.iinc 7 1, 3) := dk_132 7 1 (dk_at dksX6_stands_2 12 rfl rfl)
theorem dX6_stands_63 : decode cX6_stands 63 = .ok (.goto (-33), 3) := dk_167 255 223 (dk_at dksX6_stands_2 15 rfl rfl)
theorem dX6_stands_66 : decode cX6_stands 66 = .ok (.aload_n 0, 1) := dk_42 (dk_at dksX6_stands_2 18 rfl rfl)
theorem dX6_stands_67 : decode cX6_stands 67 = .ok (.getfield 21, 3) := dk_180 0 21 (dk_at dksX6_stands_2 19 rfl rfl)
theorem dX6_stands_70 : decode cX6_stands 70 = .ok (.iconst 5, 1) := dk_8 (dk_at dksX6_stands_2 22 rfl rfl)
theorem dX6_stands_71 : decode cX6_stands 71 = .ok (.iload_n 2, 1) := dk_28 (dk_at dksX6_stands_2 23 rfl rfl)
theorem dX6_stands_72 : decode cX6_stands 72 = .ok (.imul, 1) := dk_104 (dk_at dksX6_stands_3 0 rfl rfl)
theorem dX6_stands_73 : decode cX6_stands 73 = .ok (.iload 5, 2) := dk_21 5 (dk_at dksX6_stands_3 1 rfl rfl)
theorem dX6_stands_75 : decode cX6_stands 75 = .ok (.iadd, 1) := dk_96 (dk_at dksX6_stands_3 3 rfl rfl)
theorem dX6_stands_76 : decode cX6_stands 76 = .ok (.iaload, 1) := dk_46 (dk_at dksX6_stands_3 4 rfl rfl)
theorem dX6_stands_77 : decode cX6_stands 77 = .ok (.istore 7, 2) := dk_54 7 (dk_at dksX6_stands_3 5 rfl rfl)
theorem dX6_stands_79 : decode cX6_stands 79 = .ok (.iload 6, 2) := dk_21 6 (dk_at dksX6_stands_3 7 rfl rfl)
theorem dX6_stands_81 : decode cX6_stands 81 = .ok (.iconst 1, 1) := dk_4 (dk_at dksX6_stands_3 9 rfl rfl)
theorem dX6_stands_82 : decode cX6_stands 82 = .ok (.iload 4, 2) := dk_21 4 (dk_at dksX6_stands_3 10 rfl rfl)
theorem dX6_stands_84 : decode cX6_stands 84 = .ok (.ishl, 1) := dk_120 (dk_at dksX6_stands_3 12 rfl rfl)
theorem dX6_stands_85 : decode cX6_stands 85 = .ok (.iconst 1, 1) := dk_4 (dk_at dksX6_stands_3 13 rfl rfl)
theorem dX6_stands_86 : decode cX6_stands 86 = .ok (.isub, 1) := dk_100 (dk_at dksX6_stands_3 14 rfl rfl)
theorem dX6_stands_87 : decode cX6_stands 87 = .ok (.iand, 1) := dk_126 (dk_at dksX6_stands_3 15 rfl rfl)
theorem dX6_stands_88 : decode cX6_stands 88 = .ok (.invokestatic 133, 3) := dk_184 0 133 (dk_at dksX6_stands_3 16 rfl rfl)
theorem dX6_stands_91 : decode cX6_stands 91 = .ok (.istore 8, 2) := dk_54 8 (dk_at dksX6_stands_3 19 rfl rfl)
theorem dX6_stands_93 : decode cX6_stands 93 = .ok (.iload 7, 2) := dk_21 7 (dk_at dksX6_stands_3 21 rfl rfl)
theorem dX6_stands_95 : decode cX6_stands 95 = .ok (.iload 4, 2) := dk_21 4 (dk_at dksX6_stands_4 0 rfl rfl)
theorem dX6_stands_97 : decode cX6_stands 97 = .ok (.if_icmp .ne 16, 3) := dk_160 0 16 (dk_at dksX6_stands_4 2 rfl rfl)
theorem dX6_stands_100 : decode cX6_stands 100 = .ok (.iload_n 1, 1) := dk_27 (dk_at dksX6_stands_4 5 rfl rfl)
theorem dX6_stands_101 : decode cX6_stands 101 = .ok (.iload 8, 2) := dk_21 8 (dk_at dksX6_stands_4 6 rfl rfl)
theorem dX6_stands_103 : decode cX6_stands 103 = .ok (.isub, 1) := dk_100 (dk_at dksX6_stands_4 8 rfl rfl)
theorem dX6_stands_104 : decode cX6_stands 104 = .ok (.iload_n 3, 1) := dk_29 (dk_at dksX6_stands_4 9 rfl rfl)
theorem dX6_stands_105 : decode cX6_stands 105 = .ok (.iload 4, 2) := dk_21 4 (dk_at dksX6_stands_4 10 rfl rfl)
theorem dX6_stands_107 : decode cX6_stands 107 = .ok (.isub, 1) := dk_100 (dk_at dksX6_stands_4 12 rfl rfl)
theorem dX6_stands_108 : decode cX6_stands 108 = .ok (.if_icmp .lt 60, 3) := dk_161 0 60 (dk_at dksX6_stands_4 13 rfl rfl)
theorem dX6_stands_111 : decode cX6_stands 111 = .ok (.iconst 0, 1) := dk_3 (dk_at dksX6_stands_4 16 rfl rfl)
theorem dX6_stands_112 : decode cX6_stands 112 = .ok (.ireturn, 1) := dk_172 (dk_at dksX6_stands_4 17 rfl rfl)
theorem dX6_stands_113 : decode cX6_stands 113 = .ok (.iload 6, 2) := dk_21 6 (dk_at dksX6_stands_4 18 rfl rfl)
theorem dX6_stands_115 : decode cX6_stands 115 = .ok (.iload 7, 2) := dk_21 7 (dk_at dksX6_stands_4 20 rfl rfl)
theorem dX6_stands_117 : decode cX6_stands 117 = .ok (.invokestatic 102, 3) := dk_184 0 102 (dk_at dksX6_stands_5 0 rfl rfl)
theorem dX6_stands_120 : decode cX6_stands 120 = .ok (.ifCond .ne 46, 3) := dk_154 0 46 (dk_at dksX6_stands_5 3 rfl rfl)
theorem dX6_stands_123 : decode cX6_stands 123 = .ok (.aload_n 0, 1) := dk_42 (dk_at dksX6_stands_5 6 rfl rfl)
theorem dX6_stands_124 : decode cX6_stands 124 = .ok (.iload_n 3, 1) := dk_29 (dk_at dksX6_stands_5 7 rfl rfl)
theorem dX6_stands_125 : decode cX6_stands 125 = .ok (.iload 5, 2) := dk_21 5 (dk_at dksX6_stands_5 8 rfl rfl)
theorem dX6_stands_127 : decode cX6_stands 127 = .ok (.iadd, 1) := dk_96 (dk_at dksX6_stands_5 10 rfl rfl)
theorem dX6_stands_128 : decode cX6_stands 128 = .ok (.iconst 0, 1) := dk_3 (dk_at dksX6_stands_5 11 rfl rfl)
theorem dX6_stands_129 : decode cX6_stands 129 = .ok (.invokevirtual 106, 3) := dk_182 0 106 (dk_at dksX6_stands_5 12 rfl rfl)
theorem dX6_stands_132 : decode cX6_stands 132 = .ok (.iload 7, 2) := dk_21 7 (dk_at dksX6_stands_5 15 rfl rfl)
theorem dX6_stands_134 : decode cX6_stands 134 = .ok (.iload 8, 2) := dk_21 8 (dk_at dksX6_stands_5 17 rfl rfl)
theorem dX6_stands_136 : decode cX6_stands 136 = .ok (.invokestatic 200, 3) := dk_184 0 200 (dk_at dksX6_stands_5 19 rfl rfl)
theorem dX6_stands_139 : decode cX6_stands 139 = .ok (.ifCond .eq 27, 3) := dk_153 0 27 (dk_at dksX6_stands_6 0 rfl rfl)
theorem dX6_stands_142 : decode cX6_stands 142 = .ok (.aload_n 0, 1) := dk_42 (dk_at dksX6_stands_6 3 rfl rfl)
theorem dX6_stands_143 : decode cX6_stands 143 = .ok (.iload_n 3, 1) := dk_29 (dk_at dksX6_stands_6 4 rfl rfl)
theorem dX6_stands_144 : decode cX6_stands 144 = .ok (.iload 5, 2) := dk_21 5 (dk_at dksX6_stands_6 5 rfl rfl)
theorem dX6_stands_146 : decode cX6_stands 146 = .ok (.iadd, 1) := dk_96 (dk_at dksX6_stands_6 7 rfl rfl)
theorem dX6_stands_147 : decode cX6_stands 147 = .ok (.iconst 1, 1) := dk_4 (dk_at dksX6_stands_6 8 rfl rfl)
theorem dX6_stands_148 : decode cX6_stands 148 = .ok (.invokevirtual 106, 3) := dk_182 0 106 (dk_at dksX6_stands_6 9 rfl rfl)
theorem dX6_stands_151 : decode cX6_stands 151 = .ok (.iload 7, 2) := dk_21 7 (dk_at dksX6_stands_6 12 rfl rfl)
theorem dX6_stands_153 : decode cX6_stands 153 = .ok (.iload 4, 2) := dk_21 4 (dk_at dksX6_stands_6 14 rfl rfl)
theorem dX6_stands_155 : decode cX6_stands 155 = .ok (.iconst 1, 1) := dk_4 (dk_at dksX6_stands_6 16 rfl rfl)
theorem dX6_stands_156 : decode cX6_stands 156 = .ok (.isub, 1) := dk_100 (dk_at dksX6_stands_6 17 rfl rfl)
theorem dX6_stands_157 : decode cX6_stands 157 = .ok (.iload 8, 2) := dk_21 8 (dk_at dksX6_stands_6 18 rfl rfl)
theorem dX6_stands_159 : decode cX6_stands 159 = .ok (.isub, 1) := dk_100 (dk_at dksX6_stands_6 20 rfl rfl)
theorem dX6_stands_160 : decode cX6_stands 160 = .ok (.invokestatic 200, 3) := dk_184 0 200 (dk_at dksX6_stands_6 21 rfl rfl)
theorem dX6_stands_163 : decode cX6_stands 163 = .ok (.ifCond .ne 5, 3) := dk_154 0 5 (dk_at dksX6_stands_7 0 rfl rfl)
theorem dX6_stands_166 : decode cX6_stands 166 = .ok (.iconst 0, 1) := dk_3 (dk_at dksX6_stands_7 3 rfl rfl)
theorem dX6_stands_167 : decode cX6_stands 167 = .ok (.ireturn, 1) := dk_172 (dk_at dksX6_stands_7 4 rfl rfl)
theorem dX6_stands_168 : decode cX6_stands 168 = .ok (.iinc 5 1, 3) := dk_132 5 1 (dk_at dksX6_stands_7 5 rfl rfl)
theorem dX6_stands_171 : decode cX6_stands 171 = .ok (.goto (-153), 3) := dk_167 255 103 (dk_at dksX6_stands_7 8 rfl rfl)
theorem dX6_stands_174 : decode cX6_stands 174 = .ok (.aload_n 0, 1) := dk_42 (dk_at dksX6_stands_7 11 rfl rfl)
theorem dX6_stands_175 : decode cX6_stands 175 = .ok (.getfield 7, 3) := dk_180 0 7 (dk_at dksX6_stands_7 12 rfl rfl)
theorem dX6_stands_178 : decode cX6_stands 178 = .ok (.iconst 2, 1) := dk_5 (dk_at dksX6_stands_7 15 rfl rfl)
theorem dX6_stands_179 : decode cX6_stands 179 = .ok (.iaload, 1) := dk_46 (dk_at dksX6_stands_7 16 rfl rfl)
theorem dX6_stands_180 : decode cX6_stands 180 = .ok (.ifCond .eq 23, 3) := dk_153 0 23 (dk_at dksX6_stands_7 17 rfl rfl)
theorem dX6_stands_183 : decode cX6_stands 183 = .ok (.aload_n 0, 1) := dk_42 (dk_at dksX6_stands_7 20 rfl rfl)
theorem dX6_stands_184 : decode cX6_stands 184 = .ok (.iload_n 1, 1) := dk_27 (dk_at dksX6_stands_7 21 rfl rfl)
theorem dX6_stands_185 : decode cX6_stands 185 = .ok (.iload_n 2, 1) := dk_28 (dk_at dksX6_stands_7 22 rfl rfl)
theorem dX6_stands_186 : decode cX6_stands 186 = .ok (.iconst 1, 1) := dk_4 (dk_at dksX6_stands_7 23 rfl rfl)
theorem dX6_stands_187 : decode cX6_stands 187 = .ok (.invokevirtual 203, 3) := dk_182 0 203 (dk_at dksX6_stands_8 0 rfl rfl)
theorem dX6_stands_190 : decode cX6_stands 190 = .ok (.ifCond .eq 17, 3) := dk_153 0 17 (dk_at dksX6_stands_8 3 rfl rfl)
theorem dX6_stands_193 : decode cX6_stands 193 = .ok (.aload_n 0, 1) := dk_42 (dk_at dksX6_stands_8 6 rfl rfl)
theorem dX6_stands_194 : decode cX6_stands 194 = .ok (.iload_n 1, 1) := dk_27 (dk_at dksX6_stands_8 7 rfl rfl)
theorem dX6_stands_195 : decode cX6_stands 195 = .ok (.iload_n 2, 1) := dk_28 (dk_at dksX6_stands_8 8 rfl rfl)
theorem dX6_stands_196 : decode cX6_stands 196 = .ok (.iconst 0, 1) := dk_3 (dk_at dksX6_stands_8 9 rfl rfl)
theorem dX6_stands_197 : decode cX6_stands 197 = .ok (.invokevirtual 203, 3) := dk_182 0 203 (dk_at dksX6_stands_8 10 rfl rfl)
theorem dX6_stands_200 : decode cX6_stands 200 = .ok (.ifCond .eq 7, 3) := dk_153 0 7 (dk_at dksX6_stands_8 13 rfl rfl)
theorem dX6_stands_203 : decode cX6_stands 203 = .ok (.iconst 1, 1) := dk_4 (dk_at dksX6_stands_8 16 rfl rfl)
theorem dX6_stands_204 : decode cX6_stands 204 = .ok (.goto 4, 3) := dk_167 0 4 (dk_at dksX6_stands_8 17 rfl rfl)
theorem dX6_stands_207 : decode cX6_stands 207 = .ok (.iconst 0, 1) := dk_3 (dk_at dksX6_stands_8 20 rfl rfl)
theorem dX6_stands_208 : decode cX6_stands 208 = .ok (.ireturn, 1) := dk_172 (dk_at dksX6_stands_8 21 rfl rfl)
abbrev cX6_standsAslant : ByteArray := prog_10_method_56_code
def yX6_standsAslant : MethodName := ⟨RX6, "standsAslant", "(IIZ)Z"⟩
def dkwX6_standsAslant_6 : List UInt8 := [4, 167, 0, 22, 3, 167, 0, 18, 21, 6, 21, 8, 184, 0, 102, 154, 0, 7, 4, 167, 0, 4, 3, 172]
abbrev dktX6_standsAslant_6 : List UInt8 := dkwX6_standsAslant_6 ++ []
def dkwX6_standsAslant_5 : List UInt8 := [100, 27, 100, 96, 46, 54, 8, 21, 8, 21, 5, 160, 0, 21, 21, 7, 21, 4, 21, 5, 100, 162, 0, 7]
abbrev dktX6_standsAslant_5 : List UInt8 := dkwX6_standsAslant_5 ++ dktX6_standsAslant_6
def dkwX6_standsAslant_4 : List UInt8 := [132, 8, 1, 167, 255, 185, 42, 180, 0, 21, 8, 28, 104, 29, 153, 0, 7, 27, 167, 0, 9, 21, 4, 4]
abbrev dktX6_standsAslant_4 : List UInt8 := dkwX6_standsAslant_4 ++ dktX6_standsAslant_5
def dkwX6_standsAslant_3 : List UInt8 := [120, 128, 54, 6, 21, 7, 21, 9, 21, 5, 160, 0, 7, 4, 167, 0, 4, 3, 184, 0, 80, 96, 54, 7]
abbrev dktX6_standsAslant_3 : List UInt8 := dkwX6_standsAslant_3 ++ dktX6_standsAslant_4
def dkwX6_standsAslant_2 : List UInt8 := [153, 0, 8, 21, 8, 167, 0, 10, 21, 4, 4, 100, 21, 8, 100, 96, 46, 54, 9, 21, 6, 4, 21, 9]
abbrev dktX6_standsAslant_2 : List UInt8 := dkwX6_standsAslant_2 ++ dktX6_standsAslant_3
def dkwX6_standsAslant_1 : List UInt8 := [54, 8, 21, 8, 27, 162, 0, 71, 42, 180, 0, 21, 8, 42, 180, 0, 39, 21, 8, 46, 104, 29]
abbrev dktX6_standsAslant_1 : List UInt8 := dkwX6_standsAslant_1 ++ dktX6_standsAslant_2
def dkwX6_standsAslant_0 : List UInt8 := [42, 180, 0, 7, 3, 46, 54, 4, 42, 180, 0, 7, 4, 46, 54, 5, 3, 54, 6, 3, 54, 7, 3]
abbrev dktX6_standsAslant_0 : List UInt8 := dkwX6_standsAslant_0 ++ dktX6_standsAslant_1
theorem dksX6_standsAslant_0 : cX6_standsAslant.data.toList.drop 0 = dktX6_standsAslant_0 := by decide +kernel
theorem dksX6_standsAslant_1 : cX6_standsAslant.data.toList.drop 23 = dktX6_standsAslant_1 := dk_seg dksX6_standsAslant_0 23 rfl rfl
theorem dksX6_standsAslant_2 : cX6_standsAslant.data.toList.drop 45 = dktX6_standsAslant_2 := dk_seg dksX6_standsAslant_1 22 rfl rfl
theorem dksX6_standsAslant_3 : cX6_standsAslant.data.toList.drop 69 = dktX6_standsAslant_3 := dk_seg dksX6_standsAslant_2 24 rfl rfl
theorem dksX6_standsAslant_4 : cX6_standsAslant.data.toList.drop 93 = dktX6_standsAslant_4 := dk_seg dksX6_standsAslant_3 24 rfl rfl
theorem dksX6_standsAslant_5 : cX6_standsAslant.data.toList.drop 117 = dktX6_standsAslant_5 := dk_seg dksX6_standsAslant_4 24 rfl rfl
theorem dksX6_standsAslant_6 : cX6_standsAslant.data.toList.drop 141 = dktX6_standsAslant_6 := dk_seg dksX6_standsAslant_5 24 rfl rfl
theorem dX6_standsAslant_0 : decode cX6_standsAslant 0 = .ok (.aload_n 0, 1) := dk_42 (dk_at dksX6_standsAslant_0 0 rfl rfl)
theorem dX6_standsAslant_1 : decode cX6_standsAslant 1 = .ok (.getfield 7, 3) := dk_180 0 7 (dk_at dksX6_standsAslant_0 1 rfl rfl)
theorem dX6_standsAslant_4 : decode cX6_standsAslant 4 = .ok (.iconst 0, 1) := dk_3 (dk_at dksX6_standsAslant_0 4 rfl rfl)
theorem dX6_standsAslant_5 : decode cX6_standsAslant 5 = .ok (.iaload, 1) := dk_46 (dk_at dksX6_standsAslant_0 5 rfl rfl)
theorem dX6_standsAslant_6 : decode cX6_standsAslant 6 = .ok (.istore 4, 2) := dk_54 4 (dk_at dksX6_standsAslant_0 6 rfl rfl)
theorem dX6_standsAslant_8 : decode cX6_standsAslant 8 = .ok (.aload_n 0, 1) := dk_42 (dk_at dksX6_standsAslant_0 8 rfl rfl)
theorem dX6_standsAslant_9 : decode cX6_standsAslant 9 = .ok (.getfield 7, 3) := dk_180 0 7 (dk_at dksX6_standsAslant_0 9 rfl rfl)
theorem dX6_standsAslant_12 : decode cX6_standsAslant 12 = .ok (.iconst 1, 1) := dk_4 (dk_at dksX6_standsAslant_0 12 rfl rfl)
theorem dX6_standsAslant_13 : decode cX6_standsAslant 13 = .ok (.iaload, 1) := dk_46 (dk_at dksX6_standsAslant_0 13 rfl rfl)
theorem dX6_standsAslant_14 : decode cX6_standsAslant 14 = .ok (.istore 5, 2) := dk_54 5 (dk_at dksX6_standsAslant_0 14 rfl rfl)
theorem dX6_standsAslant_16 : decode cX6_standsAslant 16 = .ok (.iconst 0, 1) := dk_3 (dk_at dksX6_standsAslant_0 16 rfl rfl)
theorem dX6_standsAslant_17 : decode cX6_standsAslant 17 = .ok (.istore 6, 2) := dk_54 6 (dk_at dksX6_standsAslant_0 17 rfl rfl)
theorem dX6_standsAslant_19 : decode cX6_standsAslant 19 = .ok (.iconst 0, 1) := dk_3 (dk_at dksX6_standsAslant_0 19 rfl rfl)
theorem dX6_standsAslant_20 : decode cX6_standsAslant 20 = .ok (.istore 7, 2) := dk_54 7 (dk_at dksX6_standsAslant_0 20 rfl rfl)
theorem dX6_standsAslant_22 : decode cX6_standsAslant 22 = .ok (.iconst 0, 1) := dk_3 (dk_at dksX6_standsAslant_0 22 rfl rfl)
theorem dX6_standsAslant_23 : decode cX6_standsAslant 23 = .ok (.istore 8, 2) := dk_54 8 (dk_at dksX6_standsAslant_1 0 rfl rfl)
theorem dX6_standsAslant_25 : decode cX6_standsAslant 25 = .ok (.iload 8, 2) := dk_21 8 (dk_at dksX6_standsAslant_1 2 rfl rfl)
theorem dX6_standsAslant_27 : decode cX6_standsAslant 27 = .ok (.iload_n 1, 1) := dk_27 (dk_at dksX6_standsAslant_1 4 rfl rfl)
theorem dX6_standsAslant_28 : decode cX6_standsAslant 28 = .ok (.if_icmp .ge 71, 3) := dk_162 0 71 (dk_at dksX6_standsAslant_1 5 rfl rfl)
theorem dX6_standsAslant_31 : decode cX6_standsAslant 31 = .ok (.aload_n 0, 1) := dk_42 (dk_at dksX6_standsAslant_1 8 rfl rfl)
theorem dX6_standsAslant_32 : decode cX6_standsAslant 32 = .ok (.getfield 21, 3) := dk_180 0 21 (dk_at dksX6_standsAslant_1 9 rfl rfl)
theorem dX6_standsAslant_35 : decode cX6_standsAslant 35 = .ok (.iconst 5, 1) := dk_8 (dk_at dksX6_standsAslant_1 12 rfl rfl)
theorem dX6_standsAslant_36 : decode cX6_standsAslant 36 = .ok (.aload_n 0, 1) := dk_42 (dk_at dksX6_standsAslant_1 13 rfl rfl)
theorem dX6_standsAslant_37 : decode cX6_standsAslant 37 = .ok (.getfield 39, 3) := dk_180 0 39 (dk_at dksX6_standsAslant_1 14 rfl rfl)
theorem dX6_standsAslant_40 : decode cX6_standsAslant 40 = .ok (.iload 8, 2) := dk_21 8 (dk_at dksX6_standsAslant_1 17 rfl rfl)
theorem dX6_standsAslant_42 : decode cX6_standsAslant 42 = .ok (.iaload, 1) := dk_46 (dk_at dksX6_standsAslant_1 19 rfl rfl)
theorem dX6_standsAslant_43 : decode cX6_standsAslant 43 = .ok (.imul, 1) := dk_104 (dk_at dksX6_standsAslant_1 20 rfl rfl)
theorem dX6_standsAslant_44 : decode cX6_standsAslant 44 = .ok (.iload_n 3, 1) := dk_29 (dk_at dksX6_standsAslant_1 21 rfl rfl)
theorem dX6_standsAslant_45 : decode cX6_standsAslant 45 = .ok (.ifCond .eq 8, 3) := dk_153 0 8 (dk_at dksX6_standsAslant_2 0 rfl rfl)
theorem dX6_standsAslant_48 : decode cX6_standsAslant 48 = .ok (.iload 8, 2) := dk_21 8 (dk_at dksX6_standsAslant_2 3 rfl rfl)
theorem dX6_standsAslant_50 : decode cX6_standsAslant 50 = .ok (.goto 10, 3) := dk_167 0 10 (dk_at dksX6_standsAslant_2 5 rfl rfl)
theorem dX6_standsAslant_53 : decode cX6_standsAslant 53 = .ok (.iload 4, 2) := dk_21 4 (dk_at dksX6_standsAslant_2 8 rfl rfl)
theorem dX6_standsAslant_55 : decode cX6_standsAslant 55 = .ok (.iconst 1, 1) := dk_4 (dk_at dksX6_standsAslant_2 10 rfl rfl)
theorem dX6_standsAslant_56 : decode cX6_standsAslant 56 = .ok (.isub, 1) := dk_100 (dk_at dksX6_standsAslant_2 11 rfl rfl)
theorem dX6_standsAslant_57 : decode cX6_standsAslant 57 = .ok (.iload 8, 2) := dk_21 8 (dk_at dksX6_standsAslant_2 12 rfl rfl)
theorem dX6_standsAslant_59 : decode cX6_standsAslant 59 = .ok (.isub, 1) := dk_100 (dk_at dksX6_standsAslant_2 14 rfl rfl)
theorem dX6_standsAslant_60 : decode cX6_standsAslant 60 = .ok (.iadd, 1) := dk_96 (dk_at dksX6_standsAslant_2 15 rfl rfl)
theorem dX6_standsAslant_61 : decode cX6_standsAslant 61 = .ok (.iaload, 1) := dk_46 (dk_at dksX6_standsAslant_2 16 rfl rfl)
theorem dX6_standsAslant_62 : decode cX6_standsAslant 62 = .ok (.istore 9, 2) := dk_54 9 (dk_at dksX6_standsAslant_2 17 rfl rfl)
theorem dX6_standsAslant_64 : decode cX6_standsAslant 64 = .ok (.iload 6, 2) := dk_21 6 (dk_at dksX6_standsAslant_2 19 rfl rfl)
theorem dX6_standsAslant_66 : decode cX6_standsAslant 66 = .ok (.iconst 1, 1) := dk_4 (dk_at dksX6_standsAslant_2 21 rfl rfl)
theorem dX6_standsAslant_67 : decode cX6_standsAslant 67 = .ok (.iload 9, 2) := dk_21 9 (dk_at dksX6_standsAslant_2 22 rfl rfl)
theorem dX6_standsAslant_69 : decode cX6_standsAslant 69 = .ok (.ishl, 1) := dk_120 (dk_at dksX6_standsAslant_3 0 rfl rfl)
theorem dX6_standsAslant_70 : decode cX6_standsAslant 70 = .ok (.ior, 1) := dk_128 (dk_at dksX6_standsAslant_3 1 rfl rfl)
theorem dX6_standsAslant_71 : decode cX6_standsAslant 71 = .ok (.istore 6, 2) := dk_54 6 (dk_at dksX6_standsAslant_3 2 rfl rfl)
theorem dX6_standsAslant_73 : decode cX6_standsAslant 73 = .ok (.iload 7, 2) := dk_21 7 (dk_at dksX6_standsAslant_3 4 rfl rfl)
theorem dX6_standsAslant_75 : decode cX6_standsAslant 75 = .ok (.iload 9, 2) := dk_21 9 (dk_at dksX6_standsAslant_3 6 rfl rfl)
theorem dX6_standsAslant_77 : decode cX6_standsAslant 77 = .ok (.iload 5, 2) := dk_21 5 (dk_at dksX6_standsAslant_3 8 rfl rfl)
theorem dX6_standsAslant_79 : decode cX6_standsAslant 79 = .ok (.if_icmp .ne 7, 3) := dk_160 0 7 (dk_at dksX6_standsAslant_3 10 rfl rfl)
theorem dX6_standsAslant_82 : decode cX6_standsAslant 82 = .ok (.iconst 1, 1) := dk_4 (dk_at dksX6_standsAslant_3 13 rfl rfl)
theorem dX6_standsAslant_83 : decode cX6_standsAslant 83 = .ok (.goto 4, 3) := dk_167 0 4 (dk_at dksX6_standsAslant_3 14 rfl rfl)
theorem dX6_standsAslant_86 : decode cX6_standsAslant 86 = .ok (.iconst 0, 1) := dk_3 (dk_at dksX6_standsAslant_3 17 rfl rfl)
theorem dX6_standsAslant_87 : decode cX6_standsAslant 87 = .ok (.invokestatic 80, 3) := dk_184 0 80 (dk_at dksX6_standsAslant_3 18 rfl rfl)
theorem dX6_standsAslant_90 : decode cX6_standsAslant 90 = .ok (.iadd, 1) := dk_96 (dk_at dksX6_standsAslant_3 21 rfl rfl)
theorem dX6_standsAslant_91 : decode cX6_standsAslant 91 = .ok (.istore 7, 2) := dk_54 7 (dk_at dksX6_standsAslant_3 22 rfl rfl)
theorem dX6_standsAslant_93 : decode cX6_standsAslant 93 = .ok (.iinc 8 1, 3) := dk_132 8 1 (dk_at dksX6_standsAslant_4 0 rfl rfl)
theorem dX6_standsAslant_96 : decode cX6_standsAslant 96 = .ok (.goto (-71), 3) := dk_167 255 185 (dk_at dksX6_standsAslant_4 3 rfl rfl)
theorem dX6_standsAslant_99 : decode cX6_standsAslant 99 = .ok (.aload_n 0, 1) := dk_42 (dk_at dksX6_standsAslant_4 6 rfl rfl)
theorem dX6_standsAslant_100 : decode cX6_standsAslant 100 = .ok (.getfield 21, 3) := dk_180 0 21 (dk_at dksX6_standsAslant_4 7 rfl rfl)
theorem dX6_standsAslant_103 : decode cX6_standsAslant 103 = .ok (.iconst 5, 1) := dk_8 (dk_at dksX6_standsAslant_4 10 rfl rfl)
theorem dX6_standsAslant_104 : decode cX6_standsAslant 104 = .ok (.iload_n 2, 1) := dk_28 (dk_at dksX6_standsAslant_4 11 rfl rfl)
theorem dX6_standsAslant_105 : decode cX6_standsAslant 105 = .ok (.imul, 1) := dk_104 (dk_at dksX6_standsAslant_4 12 rfl rfl)
theorem dX6_standsAslant_106 : decode cX6_standsAslant 106 = .ok (.iload_n 3, 1) := dk_29 (dk_at dksX6_standsAslant_4 13 rfl rfl)
theorem dX6_standsAslant_107 : decode cX6_standsAslant 107 = .ok (.ifCond .eq 7, 3) := dk_153 0 7 (dk_at dksX6_standsAslant_4 14 rfl rfl)
theorem dX6_standsAslant_110 : decode cX6_standsAslant 110 = .ok (.iload_n 1, 1) := dk_27 (dk_at dksX6_standsAslant_4 17 rfl rfl)
theorem dX6_standsAslant_111 : decode cX6_standsAslant 111 = .ok (.goto 9, 3) := dk_167 0 9 (dk_at dksX6_standsAslant_4 18 rfl rfl)
theorem dX6_standsAslant_114 : decode cX6_standsAslant 114 = .ok (.iload 4, 2) := dk_21 4 (dk_at dksX6_standsAslant_4 21 rfl rfl)
theorem dX6_standsAslant_116 : decode cX6_standsAslant 116 = .ok (.iconst 1, 1) := dk_4 (dk_at dksX6_standsAslant_4 23 rfl rfl)
theorem dX6_standsAslant_117 : decode cX6_standsAslant 117 = .ok (.isub, 1) := dk_100 (dk_at dksX6_standsAslant_5 0 rfl rfl)
theorem dX6_standsAslant_118 : decode cX6_standsAslant 118 = .ok (.iload_n 1, 1) := dk_27 (dk_at dksX6_standsAslant_5 1 rfl rfl)
theorem dX6_standsAslant_119 : decode cX6_standsAslant 119 = .ok (.isub, 1) := dk_100 (dk_at dksX6_standsAslant_5 2 rfl rfl)
theorem dX6_standsAslant_120 : decode cX6_standsAslant 120 = .ok (.iadd, 1) := dk_96 (dk_at dksX6_standsAslant_5 3 rfl rfl)
theorem dX6_standsAslant_121 : decode cX6_standsAslant 121 = .ok (.iaload, 1) := dk_46 (dk_at dksX6_standsAslant_5 4 rfl rfl)
theorem dX6_standsAslant_122 : decode cX6_standsAslant 122 = .ok (.istore 8, 2) := dk_54 8 (dk_at dksX6_standsAslant_5 5 rfl rfl)
theorem dX6_standsAslant_124 : decode cX6_standsAslant 124 = .ok (.iload 8, 2) := dk_21 8 (dk_at dksX6_standsAslant_5 7 rfl rfl)
theorem dX6_standsAslant_126 : decode cX6_standsAslant 126 = .ok (.iload 5, 2) := dk_21 5 (dk_at dksX6_standsAslant_5 9 rfl rfl)
theorem dX6_standsAslant_128 : decode cX6_standsAslant 128 = .ok (.if_icmp .ne 21, 3) := dk_160 0 21 (dk_at dksX6_standsAslant_5 11 rfl rfl)
theorem dX6_standsAslant_131 : decode cX6_standsAslant 131 = .ok (.iload 7, 2) := dk_21 7 (dk_at dksX6_standsAslant_5 14 rfl rfl)
theorem dX6_standsAslant_133 : decode cX6_standsAslant 133 = .ok (.iload 4, 2) := dk_21 4 (dk_at dksX6_standsAslant_5 16 rfl rfl)
theorem dX6_standsAslant_135 : decode cX6_standsAslant 135 = .ok (.iload 5, 2) := dk_21 5 (dk_at dksX6_standsAslant_5 18 rfl rfl)
theorem dX6_standsAslant_137 : decode cX6_standsAslant 137 = .ok (.isub, 1) := dk_100 (dk_at dksX6_standsAslant_5 20 rfl rfl)
theorem dX6_standsAslant_138 : decode cX6_standsAslant 138 = .ok (.if_icmp .ge 7, 3) := dk_162 0 7 (dk_at dksX6_standsAslant_5 21 rfl rfl)
theorem dX6_standsAslant_141 : decode cX6_standsAslant 141 = .ok (.iconst 1, 1) := dk_4 (dk_at dksX6_standsAslant_6 0 rfl rfl)
theorem dX6_standsAslant_142 : decode cX6_standsAslant 142 = .ok (.goto 22, 3) := dk_167 0 22 (dk_at dksX6_standsAslant_6 1 rfl rfl)
theorem dX6_standsAslant_145 : decode cX6_standsAslant 145 = .ok (.iconst 0, 1) := dk_3 (dk_at dksX6_standsAslant_6 4 rfl rfl)
theorem dX6_standsAslant_146 : decode cX6_standsAslant 146 = .ok (.goto 18, 3) := dk_167 0 18 (dk_at dksX6_standsAslant_6 5 rfl rfl)
theorem dX6_standsAslant_149 : decode cX6_standsAslant 149 = .ok (.iload 6, 2) := dk_21 6 (dk_at dksX6_standsAslant_6 8 rfl rfl)
theorem dX6_standsAslant_151 : decode cX6_standsAslant 151 = .ok (.iload 8, 2) := dk_21 8 (dk_at dksX6_standsAslant_6 10 rfl rfl)
theorem dX6_standsAslant_153 : decode cX6_standsAslant 153 = .ok (.invokestatic 102, 3) := dk_184 0 102 (dk_at dksX6_standsAslant_6 12 rfl rfl)
theorem dX6_standsAslant_156 : decode cX6_standsAslant 156 = .ok (.ifCond .ne 7, 3) := dk_154 0 7 (dk_at dksX6_standsAslant_6 15 rfl rfl)
theorem dX6_standsAslant_159 : decode cX6_standsAslant 159 = .ok (.iconst 1, 1) := dk_4 (dk_at dksX6_standsAslant_6 18 rfl rfl)
theorem dX6_standsAslant_160 : decode cX6_standsAslant 160 = .ok (.goto 4, 3) := dk_167 0 4 (dk_at dksX6_standsAslant_6 19 rfl rfl)
theorem dX6_standsAslant_163 : decode cX6_standsAslant 163 = .ok (.iconst 0, 1) := dk_3 (dk_at dksX6_standsAslant_6 22 rfl rfl)
theorem dX6_standsAslant_164 : decode cX6_standsAslant 164 = .ok (.ireturn, 1) := dk_172 (dk_at dksX6_standsAslant_6 23 rfl rfl)
abbrev cX6_firstThing : ByteArray := prog_10_method_102_code
def yX6_firstThing : MethodName := ⟨RX6, "firstThing", "(I)I"⟩
def dkwX6_firstThing_1 : List UInt8 := [154, 0, 7, 2, 167, 0, 9, 42, 180, 0, 42, 27, 46, 172]
abbrev dktX6_firstThing_1 : List UInt8 := dkwX6_firstThing_1 ++ []
def dkwX6_firstThing_0 : List UInt8 := [42, 42, 27, 182, 0, 251, 4, 4, 182, 0, 210, 154, 0, 5, 3, 172, 42, 4, 4, 182, 1, 19]
abbrev dktX6_firstThing_0 : List UInt8 := dkwX6_firstThing_0 ++ dktX6_firstThing_1
theorem dksX6_firstThing_0 : cX6_firstThing.data.toList.drop 0 = dktX6_firstThing_0 := by decide +kernel
theorem dksX6_firstThing_1 : cX6_firstThing.data.toList.drop 22 = dktX6_firstThing_1 := dk_seg dksX6_firstThing_0 22 rfl rfl
theorem dX6_firstThing_0 : decode cX6_firstThing 0 = .ok (.aload_n 0, 1) := dk_42 (dk_at dksX6_firstThing_0 0 rfl rfl)
theorem dX6_firstThing_1 : decode cX6_firstThing 1 = .ok (.aload_n 0, 1) := dk_42 (dk_at dksX6_firstThing_0 1 rfl rfl)
theorem dX6_firstThing_2 : decode cX6_firstThing 2 = .ok (.iload_n 1, 1) := dk_27 (dk_at dksX6_firstThing_0 2 rfl rfl)
theorem dX6_firstThing_3 : decode cX6_firstThing 3 = .ok (.invokevirtual 251, 3) := dk_182 0 251 (dk_at dksX6_firstThing_0 3 rfl rfl)
theorem dX6_firstThing_6 : decode cX6_firstThing 6 = .ok (.iconst 1, 1) := dk_4 (dk_at dksX6_firstThing_0 6 rfl rfl)
theorem dX6_firstThing_7 : decode cX6_firstThing 7 = .ok (.iconst 1, 1) := dk_4 (dk_at dksX6_firstThing_0 7 rfl rfl)
theorem dX6_firstThing_8 : decode cX6_firstThing 8 = .ok (.invokevirtual 210, 3) := dk_182 0 210 (dk_at dksX6_firstThing_0 8 rfl rfl)
theorem dX6_firstThing_11 : decode cX6_firstThing 11 = .ok (.ifCond .ne 5, 3) := dk_154 0 5 (dk_at dksX6_firstThing_0 11 rfl rfl)
theorem dX6_firstThing_14 : decode cX6_firstThing 14 = .ok (.iconst 0, 1) := dk_3 (dk_at dksX6_firstThing_0 14 rfl rfl)
theorem dX6_firstThing_15 : decode cX6_firstThing 15 = .ok (.ireturn, 1) := dk_172 (dk_at dksX6_firstThing_0 15 rfl rfl)
theorem dX6_firstThing_16 : decode cX6_firstThing 16 = .ok (.aload_n 0, 1) := dk_42 (dk_at dksX6_firstThing_0 16 rfl rfl)
theorem dX6_firstThing_17 : decode cX6_firstThing 17 = .ok (.iconst 1, 1) := dk_4 (dk_at dksX6_firstThing_0 17 rfl rfl)
theorem dX6_firstThing_18 : decode cX6_firstThing 18 = .ok (.iconst 1, 1) := dk_4 (dk_at dksX6_firstThing_0 18 rfl rfl)
theorem dX6_firstThing_19 : decode cX6_firstThing 19 = .ok (.invokevirtual 275, 3) := dk_182 1 19 (dk_at dksX6_firstThing_0 19 rfl rfl)
theorem dX6_firstThing_22 : decode cX6_firstThing 22 = .ok (.ifCond .ne 7, 3) := dk_154 0 7 (dk_at dksX6_firstThing_1 0 rfl rfl)
theorem dX6_firstThing_25 : decode cX6_firstThing 25 = .ok (.iconst (-1), 1) := dk_2 (dk_at dksX6_firstThing_1 3 rfl rfl)
theorem dX6_firstThing_26 : decode cX6_firstThing 26 = .ok (.goto 9, 3) := dk_167 0 9 (dk_at dksX6_firstThing_1 4 rfl rfl)
theorem dX6_firstThing_29 : decode cX6_firstThing 29 = .ok (.aload_n 0, 1) := dk_42 (dk_at dksX6_firstThing_1 7 rfl rfl)
theorem dX6_firstThing_30 : decode cX6_firstThing 30 = .ok (.getfield 42, 3) := dk_180 0 42 (dk_at dksX6_firstThing_1 8 rfl rfl)
theorem dX6_firstThing_33 : decode cX6_firstThing 33 = .ok (.iload_n 1, 1) := dk_27 (dk_at dksX6_firstThing_1 11 rfl rfl)
theorem dX6_firstThing_34 : decode cX6_firstThing 34 = .ok (.iaload, 1) := dk_46 (dk_at dksX6_firstThing_1 12 rfl rfl)
theorem dX6_firstThing_35 : decode cX6_firstThing 35 = .ok (.ireturn, 1) := dk_172 (dk_at dksX6_firstThing_1 13 rfl rfl)
abbrev cX6_sameInAll : ByteArray := prog_10_method_103_code
def yX6_sameInAll : MethodName := ⟨RX6, "sameInAll", "()J"⟩
def dkwX6_sameInAll_1 : List UInt8 := [153, 0, 10, 42, 180, 0, 179, 167, 0, 4, 9, 173]
abbrev dktX6_sameInAll_1 : List UInt8 := dkwX6_sameInAll_1 ++ []
def dkwX6_sameInAll_0 : List UInt8 := [42, 3, 181, 0, 55, 42, 17, 0, 200, 3, 182, 1, 19, 60, 27, 4, 17, 0, 199, 184, 0, 70]
abbrev dktX6_sameInAll_0 : List UInt8 := dkwX6_sameInAll_0 ++ dktX6_sameInAll_1
theorem dksX6_sameInAll_0 : cX6_sameInAll.data.toList.drop 0 = dktX6_sameInAll_0 := by decide +kernel
theorem dksX6_sameInAll_1 : cX6_sameInAll.data.toList.drop 22 = dktX6_sameInAll_1 := dk_seg dksX6_sameInAll_0 22 rfl rfl
theorem dX6_sameInAll_0 : decode cX6_sameInAll 0 = .ok (.aload_n 0, 1) := dk_42 (dk_at dksX6_sameInAll_0 0 rfl rfl)
theorem dX6_sameInAll_1 : decode cX6_sameInAll 1 = .ok (.iconst 0, 1) := dk_3 (dk_at dksX6_sameInAll_0 1 rfl rfl)
theorem dX6_sameInAll_2 : decode cX6_sameInAll 2 = .ok (.putfield 55, 3) := dk_181 0 55 (dk_at dksX6_sameInAll_0 2 rfl rfl)
theorem dX6_sameInAll_5 : decode cX6_sameInAll 5 = .ok (.aload_n 0, 1) := dk_42 (dk_at dksX6_sameInAll_0 5 rfl rfl)
theorem dX6_sameInAll_6 : decode cX6_sameInAll 6 = .ok (.sipush 200, 3) := dk_17 0 200 (dk_at dksX6_sameInAll_0 6 rfl rfl)
theorem dX6_sameInAll_9 : decode cX6_sameInAll 9 = .ok (.iconst 0, 1) := dk_3 (dk_at dksX6_sameInAll_0 9 rfl rfl)
theorem dX6_sameInAll_10 : decode cX6_sameInAll 10 = .ok (.invokevirtual 275, 3) := dk_182 1 19 (dk_at dksX6_sameInAll_0 10 rfl rfl)
theorem dX6_sameInAll_13 : decode cX6_sameInAll 13 = .ok (.istore_n 1, 1) := dk_60 (dk_at dksX6_sameInAll_0 13 rfl rfl)
theorem dX6_sameInAll_14 : decode cX6_sameInAll 14 = .ok (.iload_n 1, 1) := dk_27 (dk_at dksX6_sameInAll_0 14 rfl rfl)
theorem dX6_sameInAll_15 : decode cX6_sameInAll 15 = .ok (.iconst 1, 1) := dk_4 (dk_at dksX6_sameInAll_0 15 rfl rfl)
theorem dX6_sameInAll_16 : decode cX6_sameInAll 16 = .ok (.sipush 199, 3) := dk_17 0 199 (dk_at dksX6_sameInAll_0 16 rfl rfl)
theorem dX6_sameInAll_19 : decode cX6_sameInAll 19 = .ok (.invokestatic 70, 3) := dk_184 0 70 (dk_at dksX6_sameInAll_0 19 rfl rfl)
theorem dX6_sameInAll_22 : decode cX6_sameInAll 22 = .ok (.ifCond .eq 10, 3) := dk_153 0 10 (dk_at dksX6_sameInAll_1 0 rfl rfl)
theorem dX6_sameInAll_25 : decode cX6_sameInAll 25 = .ok (.aload_n 0, 1) := dk_42 (dk_at dksX6_sameInAll_1 3 rfl rfl)
theorem dX6_sameInAll_26 : decode cX6_sameInAll 26 = .ok (.getfield 179, 3) := dk_180 0 179 (dk_at dksX6_sameInAll_1 4 rfl rfl)
theorem dX6_sameInAll_29 : decode cX6_sameInAll 29 = .ok (.goto 4, 3) := dk_167 0 4 (dk_at dksX6_sameInAll_1 7 rfl rfl)
theorem dX6_sameInAll_32 : decode cX6_sameInAll 32 = .ok (.lconst 0, 1) := dk_9 (dk_at dksX6_sameInAll_1 10 rfl rfl)
theorem dX6_sameInAll_33 : decode cX6_sameInAll 33 = .ok (.lreturn, 1) := dk_173 (dk_at dksX6_sameInAll_1 11 rfl rfl)
abbrev cX6_isNeeded : ByteArray := prog_10_method_104_code
def yX6_isNeeded : MethodName := ⟨RX6, "isNeeded", "(I)Z"⟩
def dkwX6_isNeeded_4 : List UInt8 := [167, 0, 4, 3, 172]
abbrev dktX6_isNeeded_4 : List UInt8 := dkwX6_isNeeded_4 ++ []
def dkwX6_isNeeded_3 : List UInt8 := [182, 1, 19, 54, 5, 42, 180, 0, 7, 6, 27, 96, 21, 4, 79, 21, 5, 29, 164, 0, 7, 4]
abbrev dktX6_isNeeded_3 : List UInt8 := dkwX6_isNeeded_3 ++ dktX6_isNeeded_4
def dkwX6_isNeeded_2 : List UInt8 := [180, 0, 7, 6, 27, 96, 46, 54, 4, 42, 180, 0, 7, 6, 27, 96, 3, 79, 42, 17, 0, 200, 3]
abbrev dktX6_isNeeded_2 : List UInt8 := dkwX6_isNeeded_2 ++ dktX6_isNeeded_3
def dkwX6_isNeeded_1 : List UInt8 := [167, 0, 4, 3, 4, 182, 0, 210, 154, 0, 5, 3, 172, 42, 17, 0, 200, 3, 182, 1, 19, 62, 42]
abbrev dktX6_isNeeded_1 : List UInt8 := dkwX6_isNeeded_1 ++ dktX6_isNeeded_2
def dkwX6_isNeeded_0 : List UInt8 := [42, 27, 182, 0, 220, 61, 42, 28, 28, 153, 0, 18, 42, 180, 0, 7, 6, 27, 96, 46, 158, 0, 7, 4]
abbrev dktX6_isNeeded_0 : List UInt8 := dkwX6_isNeeded_0 ++ dktX6_isNeeded_1
theorem dksX6_isNeeded_0 : cX6_isNeeded.data.toList.drop 0 = dktX6_isNeeded_0 := by decide +kernel
theorem dksX6_isNeeded_1 : cX6_isNeeded.data.toList.drop 24 = dktX6_isNeeded_1 := dk_seg dksX6_isNeeded_0 24 rfl rfl
theorem dksX6_isNeeded_2 : cX6_isNeeded.data.toList.drop 47 = dktX6_isNeeded_2 := dk_seg dksX6_isNeeded_1 23 rfl rfl
theorem dksX6_isNeeded_3 : cX6_isNeeded.data.toList.drop 70 = dktX6_isNeeded_3 := dk_seg dksX6_isNeeded_2 23 rfl rfl
theorem dksX6_isNeeded_4 : cX6_isNeeded.data.toList.drop 92 = dktX6_isNeeded_4 := dk_seg dksX6_isNeeded_3 22 rfl rfl
theorem dX6_isNeeded_0 : decode cX6_isNeeded 0 = .ok (.aload_n 0, 1) := dk_42 (dk_at dksX6_isNeeded_0 0 rfl rfl)
theorem dX6_isNeeded_1 : decode cX6_isNeeded 1 = .ok (.iload_n 1, 1) := dk_27 (dk_at dksX6_isNeeded_0 1 rfl rfl)
theorem dX6_isNeeded_2 : decode cX6_isNeeded 2 = .ok (.invokevirtual 220, 3) := dk_182 0 220 (dk_at dksX6_isNeeded_0 2 rfl rfl)
theorem dX6_isNeeded_5 : decode cX6_isNeeded 5 = .ok (.istore_n 2, 1) := dk_61 (dk_at dksX6_isNeeded_0 5 rfl rfl)
theorem dX6_isNeeded_6 : decode cX6_isNeeded 6 = .ok (.aload_n 0, 1) := dk_42 (dk_at dksX6_isNeeded_0 6 rfl rfl)
theorem dX6_isNeeded_7 : decode cX6_isNeeded 7 = .ok (.iload_n 2, 1) := dk_28 (dk_at dksX6_isNeeded_0 7 rfl rfl)
theorem dX6_isNeeded_8 : decode cX6_isNeeded 8 = .ok (.iload_n 2, 1) := dk_28 (dk_at dksX6_isNeeded_0 8 rfl rfl)
theorem dX6_isNeeded_9 : decode cX6_isNeeded 9 = .ok (.ifCond .eq 18, 3) := dk_153 0 18 (dk_at dksX6_isNeeded_0 9 rfl rfl)
theorem dX6_isNeeded_12 : decode cX6_isNeeded 12 = .ok (.aload_n 0, 1) := dk_42 (dk_at dksX6_isNeeded_0 12 rfl rfl)
theorem dX6_isNeeded_13 : decode cX6_isNeeded 13 = .ok (.getfield 7, 3) := dk_180 0 7 (dk_at dksX6_isNeeded_0 13 rfl rfl)
theorem dX6_isNeeded_16 : decode cX6_isNeeded 16 = .ok (.iconst 3, 1) := dk_6 (dk_at dksX6_isNeeded_0 16 rfl rfl)
theorem dX6_isNeeded_17 : decode cX6_isNeeded 17 = .ok (.iload_n 1, 1) := dk_27 (dk_at dksX6_isNeeded_0 17 rfl rfl)
theorem dX6_isNeeded_18 : decode cX6_isNeeded 18 = .ok (.iadd, 1) := dk_96 (dk_at dksX6_isNeeded_0 18 rfl rfl)
theorem dX6_isNeeded_19 : decode cX6_isNeeded 19 = .ok (.iaload, 1) := dk_46 (dk_at dksX6_isNeeded_0 19 rfl rfl)
theorem dX6_isNeeded_20 : decode cX6_isNeeded 20 = .ok (.ifCond .le 7, 3) := dk_158 0 7 (dk_at dksX6_isNeeded_0 20 rfl rfl)
theorem dX6_isNeeded_23 : decode cX6_isNeeded 23 = .ok (.iconst 1, 1) := dk_4 (dk_at dksX6_isNeeded_0 23 rfl rfl)
theorem dX6_isNeeded_24 : decode cX6_isNeeded 24 = .ok (.goto 4, 3) := dk_167 0 4 (dk_at dksX6_isNeeded_1 0 rfl rfl)
theorem dX6_isNeeded_27 : decode cX6_isNeeded 27 = .ok (.iconst 0, 1) := dk_3 (dk_at dksX6_isNeeded_1 3 rfl rfl)
theorem dX6_isNeeded_28 : decode cX6_isNeeded 28 = .ok (.iconst 1, 1) := dk_4 (dk_at dksX6_isNeeded_1 4 rfl rfl)
theorem dX6_isNeeded_29 : decode cX6_isNeeded 29 = .ok (.invokevirtual 210, 3) := dk_182 0 210 (dk_at dksX6_isNeeded_1 5 rfl rfl)
theorem dX6_isNeeded_32 : decode cX6_isNeeded 32 = .ok (.ifCond .ne 5, 3) := dk_154 0 5 (dk_at dksX6_isNeeded_1 8 rfl rfl)
theorem dX6_isNeeded_35 : decode cX6_isNeeded 35 = .ok (.iconst 0, 1) := dk_3 (dk_at dksX6_isNeeded_1 11 rfl rfl)
theorem dX6_isNeeded_36 : decode cX6_isNeeded 36 = .ok (.ireturn, 1) := dk_172 (dk_at dksX6_isNeeded_1 12 rfl rfl)
theorem dX6_isNeeded_37 : decode cX6_isNeeded 37 = .ok (.aload_n 0, 1) := dk_42 (dk_at dksX6_isNeeded_1 13 rfl rfl)
theorem dX6_isNeeded_38 : decode cX6_isNeeded 38 = .ok (.sipush 200, 3) := dk_17 0 200 (dk_at dksX6_isNeeded_1 14 rfl rfl)
theorem dX6_isNeeded_41 : decode cX6_isNeeded 41 = .ok (.iconst 0, 1) := dk_3 (dk_at dksX6_isNeeded_1 17 rfl rfl)
theorem dX6_isNeeded_42 : decode cX6_isNeeded 42 = .ok (.invokevirtual 275, 3) := dk_182 1 19 (dk_at dksX6_isNeeded_1 18 rfl rfl)
theorem dX6_isNeeded_45 : decode cX6_isNeeded 45 = .ok (.istore_n 3, 1) := dk_62 (dk_at dksX6_isNeeded_1 21 rfl rfl)
theorem dX6_isNeeded_46 : decode cX6_isNeeded 46 = .ok (.aload_n 0, 1) := dk_42 (dk_at dksX6_isNeeded_1 22 rfl rfl)
theorem dX6_isNeeded_47 : decode cX6_isNeeded 47 = .ok (.getfield 7, 3) := dk_180 0 7 (dk_at dksX6_isNeeded_2 0 rfl rfl)
theorem dX6_isNeeded_50 : decode cX6_isNeeded 50 = .ok (.iconst 3, 1) := dk_6 (dk_at dksX6_isNeeded_2 3 rfl rfl)
theorem dX6_isNeeded_51 : decode cX6_isNeeded 51 = .ok (.iload_n 1, 1) := dk_27 (dk_at dksX6_isNeeded_2 4 rfl rfl)
theorem dX6_isNeeded_52 : decode cX6_isNeeded 52 = .ok (.iadd, 1) := dk_96 (dk_at dksX6_isNeeded_2 5 rfl rfl)
theorem dX6_isNeeded_53 : decode cX6_isNeeded 53 = .ok (.iaload, 1) := dk_46 (dk_at dksX6_isNeeded_2 6 rfl rfl)
theorem dX6_isNeeded_54 : decode cX6_isNeeded 54 = .ok (.istore 4, 2) := dk_54 4 (dk_at dksX6_isNeeded_2 7 rfl rfl)
theorem dX6_isNeeded_56 : decode cX6_isNeeded 56 = .ok (.aload_n 0, 1) := dk_42 (dk_at dksX6_isNeeded_2 9 rfl rfl)
theorem dX6_isNeeded_57 : decode cX6_isNeeded 57 = .ok (.getfield 7, 3) := dk_180 0 7 (dk_at dksX6_isNeeded_2 10 rfl rfl)
theorem dX6_isNeeded_60 : decode cX6_isNeeded 60 = .ok (.iconst 3, 1) := dk_6 (dk_at dksX6_isNeeded_2 13 rfl rfl)
theorem dX6_isNeeded_61 : decode cX6_isNeeded 61 = .ok (.iload_n 1, 1) := dk_27 (dk_at dksX6_isNeeded_2 14 rfl rfl)
theorem dX6_isNeeded_62 : decode cX6_isNeeded 62 = .ok (.iadd, 1) := dk_96 (dk_at dksX6_isNeeded_2 15 rfl rfl)
theorem dX6_isNeeded_63 : decode cX6_isNeeded 63 = .ok (.iconst 0, 1) := dk_3 (dk_at dksX6_isNeeded_2 16 rfl rfl)
theorem dX6_isNeeded_64 : decode cX6_isNeeded 64 = .ok (.iastore, 1) := dk_79 (dk_at dksX6_isNeeded_2 17 rfl rfl)
theorem dX6_isNeeded_65 : decode cX6_isNeeded 65 = .ok (.aload_n 0, 1) := dk_42 (dk_at dksX6_isNeeded_2 18 rfl rfl)
theorem dX6_isNeeded_66 : decode cX6_isNeeded 66 = .ok (.sipush 200, 3) := dk_17 0 200 (dk_at dksX6_isNeeded_2 19 rfl rfl)
theorem dX6_isNeeded_69 : decode cX6_isNeeded 69 = .ok (.iconst 0, 1) := dk_3 (dk_at dksX6_isNeeded_2 22 rfl rfl)
theorem dX6_isNeeded_70 : decode cX6_isNeeded 70 = .ok (.invokevirtual 275, 3) := dk_182 1 19 (dk_at dksX6_isNeeded_3 0 rfl rfl)
theorem dX6_isNeeded_73 : decode cX6_isNeeded 73 = .ok (.istore 5, 2) := dk_54 5 (dk_at dksX6_isNeeded_3 3 rfl rfl)
theorem dX6_isNeeded_75 : decode cX6_isNeeded 75 = .ok (.aload_n 0, 1) := dk_42 (dk_at dksX6_isNeeded_3 5 rfl rfl)
theorem dX6_isNeeded_76 : decode cX6_isNeeded 76 = .ok (.getfield 7, 3) := dk_180 0 7 (dk_at dksX6_isNeeded_3 6 rfl rfl)
theorem dX6_isNeeded_79 : decode cX6_isNeeded 79 = .ok (.iconst 3, 1) := dk_6 (dk_at dksX6_isNeeded_3 9 rfl rfl)
theorem dX6_isNeeded_80 : decode cX6_isNeeded 80 = .ok (.iload_n 1, 1) := dk_27 (dk_at dksX6_isNeeded_3 10 rfl rfl)
theorem dX6_isNeeded_81 : decode cX6_isNeeded 81 = .ok (.iadd, 1) := dk_96 (dk_at dksX6_isNeeded_3 11 rfl rfl)
theorem dX6_isNeeded_82 : decode cX6_isNeeded 82 = .ok (.iload 4, 2) := dk_21 4 (dk_at dksX6_isNeeded_3 12 rfl rfl)
theorem dX6_isNeeded_84 : decode cX6_isNeeded 84 = .ok (.iastore, 1) := dk_79 (dk_at dksX6_isNeeded_3 14 rfl rfl)
theorem dX6_isNeeded_85 : decode cX6_isNeeded 85 = .ok (.iload 5, 2) := dk_21 5 (dk_at dksX6_isNeeded_3 15 rfl rfl)
theorem dX6_isNeeded_87 : decode cX6_isNeeded 87 = .ok (.iload_n 3, 1) := dk_29 (dk_at dksX6_isNeeded_3 17 rfl rfl)
theorem dX6_isNeeded_88 : decode cX6_isNeeded 88 = .ok (.if_icmp .le 7, 3) := dk_164 0 7 (dk_at dksX6_isNeeded_3 18 rfl rfl)
theorem dX6_isNeeded_91 : decode cX6_isNeeded 91 = .ok (.iconst 1, 1) := dk_4 (dk_at dksX6_isNeeded_3 21 rfl rfl)
theorem dX6_isNeeded_92 : decode cX6_isNeeded 92 = .ok (.goto 4, 3) := dk_167 0 4 (dk_at dksX6_isNeeded_4 0 rfl rfl)
theorem dX6_isNeeded_95 : decode cX6_isNeeded 95 = .ok (.iconst 0, 1) := dk_3 (dk_at dksX6_isNeeded_4 3 rfl rfl)
theorem dX6_isNeeded_96 : decode cX6_isNeeded 96 = .ok (.ireturn, 1) := dk_172 (dk_at dksX6_isNeeded_4 4 rfl rfl)
abbrev cX6_crossedShare : ByteArray := prog_10_method_105_code
def yX6_crossedShare : MethodName := ⟨RX6, "crossedShare", "()D"⟩
def dkwX6_crossedShare_2 : List UInt8 := [132, 3, 1, 167, 255, 230, 27, 28, 100, 135, 27, 135, 111, 175]
abbrev dktX6_crossedShare_2 : List UInt8 := dkwX6_crossedShare_2 ++ []
def dkwX6_crossedShare_1 : List UInt8 := [42, 182, 0, 66, 162, 0, 24, 28, 42, 180, 0, 7, 16, 23, 29, 96, 46, 184, 0, 133, 96, 61]
abbrev dktX6_crossedShare_1 : List UInt8 := dkwX6_crossedShare_1 ++ dktX6_crossedShare_2
def dkwX6_crossedShare_0 : List UInt8 := [42, 3, 181, 0, 55, 42, 182, 0, 66, 42, 180, 0, 7, 4, 46, 4, 96, 104, 60, 3, 61, 3, 62, 29]
abbrev dktX6_crossedShare_0 : List UInt8 := dkwX6_crossedShare_0 ++ dktX6_crossedShare_1
theorem dksX6_crossedShare_0 : cX6_crossedShare.data.toList.drop 0 = dktX6_crossedShare_0 := by decide +kernel
theorem dksX6_crossedShare_1 : cX6_crossedShare.data.toList.drop 24 = dktX6_crossedShare_1 := dk_seg dksX6_crossedShare_0 24 rfl rfl
theorem dksX6_crossedShare_2 : cX6_crossedShare.data.toList.drop 46 = dktX6_crossedShare_2 := dk_seg dksX6_crossedShare_1 22 rfl rfl
theorem dX6_crossedShare_0 : decode cX6_crossedShare 0 = .ok (.aload_n 0, 1) := dk_42 (dk_at dksX6_crossedShare_0 0 rfl rfl)
theorem dX6_crossedShare_1 : decode cX6_crossedShare 1 = .ok (.iconst 0, 1) := dk_3 (dk_at dksX6_crossedShare_0 1 rfl rfl)
theorem dX6_crossedShare_2 : decode cX6_crossedShare 2 = .ok (.putfield 55, 3) := dk_181 0 55 (dk_at dksX6_crossedShare_0 2 rfl rfl)
theorem dX6_crossedShare_5 : decode cX6_crossedShare 5 = .ok (.aload_n 0, 1) := dk_42 (dk_at dksX6_crossedShare_0 5 rfl rfl)
theorem dX6_crossedShare_6 : decode cX6_crossedShare 6 = .ok (.invokevirtual 66, 3) := dk_182 0 66 (dk_at dksX6_crossedShare_0 6 rfl rfl)
theorem dX6_crossedShare_9 : decode cX6_crossedShare 9 = .ok (.aload_n 0, 1) := dk_42 (dk_at dksX6_crossedShare_0 9 rfl rfl)
theorem dX6_crossedShare_10 : decode cX6_crossedShare 10 = .ok (.getfield 7, 3) := dk_180 0 7 (dk_at dksX6_crossedShare_0 10 rfl rfl)
theorem dX6_crossedShare_13 : decode cX6_crossedShare 13 = .ok (.iconst 1, 1) := dk_4 (dk_at dksX6_crossedShare_0 13 rfl rfl)
theorem dX6_crossedShare_14 : decode cX6_crossedShare 14 = .ok (.iaload, 1) := dk_46 (dk_at dksX6_crossedShare_0 14 rfl rfl)
theorem dX6_crossedShare_15 : decode cX6_crossedShare 15 = .ok (.iconst 1, 1) := dk_4 (dk_at dksX6_crossedShare_0 15 rfl rfl)
theorem dX6_crossedShare_16 : decode cX6_crossedShare 16 = .ok (.iadd, 1) := dk_96 (dk_at dksX6_crossedShare_0 16 rfl rfl)
theorem dX6_crossedShare_17 : decode cX6_crossedShare 17 = .ok (.imul, 1) := dk_104 (dk_at dksX6_crossedShare_0 17 rfl rfl)
theorem dX6_crossedShare_18 : decode cX6_crossedShare 18 = .ok (.istore_n 1, 1) := dk_60 (dk_at dksX6_crossedShare_0 18 rfl rfl)
theorem dX6_crossedShare_19 : decode cX6_crossedShare 19 = .ok (.iconst 0, 1) := dk_3 (dk_at dksX6_crossedShare_0 19 rfl rfl)
theorem dX6_crossedShare_20 : decode cX6_crossedShare 20 = .ok (.istore_n 2, 1) := dk_61 (dk_at dksX6_crossedShare_0 20 rfl rfl)
theorem dX6_crossedShare_21 : decode cX6_crossedShare 21 = .ok (.iconst 0, 1) := dk_3 (dk_at dksX6_crossedShare_0 21 rfl rfl)
theorem dX6_crossedShare_22 : decode cX6_crossedShare 22 = .ok (.istore_n 3, 1) := dk_62 (dk_at dksX6_crossedShare_0 22 rfl rfl)
theorem dX6_crossedShare_23 : decode cX6_crossedShare 23 = .ok (.iload_n 3, 1) := dk_29 (dk_at dksX6_crossedShare_0 23 rfl rfl)
theorem dX6_crossedShare_24 : decode cX6_crossedShare 24 = .ok (.aload_n 0, 1) := dk_42 (dk_at dksX6_crossedShare_1 0 rfl rfl)
theorem dX6_crossedShare_25 : decode cX6_crossedShare 25 = .ok (.invokevirtual 66, 3) := dk_182 0 66 (dk_at dksX6_crossedShare_1 1 rfl rfl)
theorem dX6_crossedShare_28 : decode cX6_crossedShare 28 = .ok (.if_icmp .ge 24, 3) := dk_162 0 24 (dk_at dksX6_crossedShare_1 4 rfl rfl)
theorem dX6_crossedShare_31 : decode cX6_crossedShare 31 = .ok (.iload_n 2, 1) := dk_28 (dk_at dksX6_crossedShare_1 7 rfl rfl)
theorem dX6_crossedShare_32 : decode cX6_crossedShare 32 = .ok (.aload_n 0, 1) := dk_42 (dk_at dksX6_crossedShare_1 8 rfl rfl)
theorem dX6_crossedShare_33 : decode cX6_crossedShare 33 = .ok (.getfield 7, 3) := dk_180 0 7 (dk_at dksX6_crossedShare_1 9 rfl rfl)
theorem dX6_crossedShare_36 : decode cX6_crossedShare 36 = .ok (.bipush 23, 2) := dk_16 23 (dk_at dksX6_crossedShare_1 12 rfl rfl)
theorem dX6_crossedShare_38 : decode cX6_crossedShare 38 = .ok (.iload_n 3, 1) := dk_29 (dk_at dksX6_crossedShare_1 14 rfl rfl)
theorem dX6_crossedShare_39 : decode cX6_crossedShare 39 = .ok (.iadd, 1) := dk_96 (dk_at dksX6_crossedShare_1 15 rfl rfl)
theorem dX6_crossedShare_40 : decode cX6_crossedShare 40 = .ok (.iaload, 1) := dk_46 (dk_at dksX6_crossedShare_1 16 rfl rfl)
theorem dX6_crossedShare_41 : decode cX6_crossedShare 41 = .ok (.invokestatic 133, 3) := dk_184 0 133 (dk_at dksX6_crossedShare_1 17 rfl rfl)
theorem dX6_crossedShare_44 : decode cX6_crossedShare 44 = .ok (.iadd, 1) := dk_96 (dk_at dksX6_crossedShare_1 20 rfl rfl)
theorem dX6_crossedShare_45 : decode cX6_crossedShare 45 = .ok (.istore_n 2, 1) := dk_61 (dk_at dksX6_crossedShare_1 21 rfl rfl)
theorem dX6_crossedShare_46 : decode cX6_crossedShare 46 = .ok (.iinc 3 1, 3) := dk_132 3 1 (dk_at dksX6_crossedShare_2 0 rfl rfl)
theorem dX6_crossedShare_49 : decode cX6_crossedShare 49 = .ok (.goto (-26), 3) := dk_167 255 230 (dk_at dksX6_crossedShare_2 3 rfl rfl)
theorem dX6_crossedShare_52 : decode cX6_crossedShare 52 = .ok (.iload_n 1, 1) := dk_27 (dk_at dksX6_crossedShare_2 6 rfl rfl)
theorem dX6_crossedShare_53 : decode cX6_crossedShare 53 = .ok (.iload_n 2, 1) := dk_28 (dk_at dksX6_crossedShare_2 7 rfl rfl)
theorem dX6_crossedShare_54 : decode cX6_crossedShare 54 = .ok (.isub, 1) := dk_100 (dk_at dksX6_crossedShare_2 8 rfl rfl)
theorem dX6_crossedShare_55 : decode cX6_crossedShare 55 = .ok (.i2d, 1) := dk_135 (dk_at dksX6_crossedShare_2 9 rfl rfl)
theorem dX6_crossedShare_56 : decode cX6_crossedShare 56 = .ok (.iload_n 1, 1) := dk_27 (dk_at dksX6_crossedShare_2 10 rfl rfl)
theorem dX6_crossedShare_57 : decode cX6_crossedShare 57 = .ok (.i2d, 1) := dk_135 (dk_at dksX6_crossedShare_2 11 rfl rfl)
theorem dX6_crossedShare_58 : decode cX6_crossedShare 58 = .ok (.ddiv, 1) := dk_111 (dk_at dksX6_crossedShare_2 12 rfl rfl)
theorem dX6_crossedShare_59 : decode cX6_crossedShare 59 = .ok (.dreturn, 1) := dk_175 (dk_at dksX6_crossedShare_2 13 rfl rfl)
abbrev cX6_appendText : ByteArray := prog_10_method_107_code
def yX6_appendText : MethodName := ⟨RX6, "appendText", "(J)I"⟩
def dkwX6_appendText_3 : List UInt8 := [85, 42, 89, 180, 1, 31, 4, 96, 181, 1, 31, 132, 4, 255, 167, 255, 216, 42, 180, 1, 31, 172]
abbrev dktX6_appendText_3 : List UInt8 := dkwX6_appendText_3 ++ []
def dkwX6_appendText_2 : List UInt8 := [155, 0, 41, 42, 180, 0, 17, 42, 180, 1, 31, 31, 16, 8, 21, 4, 104, 125, 20, 1, 25, 127, 136, 146]
abbrev dktX6_appendText_2 : List UInt8 := dkwX6_appendText_2 ++ dktX6_appendText_3
def dkwX6_appendText_1 : List UInt8 := [163, 0, 7, 4, 167, 0, 4, 3, 4, 182, 0, 210, 154, 0, 5, 3, 172, 29, 4, 100, 54, 4, 21, 4]
abbrev dktX6_appendText_1 : List UInt8 := dkwX6_appendText_1 ++ dktX6_appendText_2
def dkwX6_appendText_0 : List UInt8 := [31, 184, 1, 27, 62, 42, 29, 158, 0, 7, 4, 167, 0, 4, 3, 42, 180, 1, 31, 29, 96, 16, 80]
abbrev dktX6_appendText_0 : List UInt8 := dkwX6_appendText_0 ++ dktX6_appendText_1
theorem dksX6_appendText_0 : cX6_appendText.data.toList.drop 0 = dktX6_appendText_0 := by decide +kernel
theorem dksX6_appendText_1 : cX6_appendText.data.toList.drop 23 = dktX6_appendText_1 := dk_seg dksX6_appendText_0 23 rfl rfl
theorem dksX6_appendText_2 : cX6_appendText.data.toList.drop 47 = dktX6_appendText_2 := dk_seg dksX6_appendText_1 24 rfl rfl
theorem dksX6_appendText_3 : cX6_appendText.data.toList.drop 71 = dktX6_appendText_3 := dk_seg dksX6_appendText_2 24 rfl rfl
theorem dX6_appendText_0 : decode cX6_appendText 0 = .ok (.lload_n 1, 1) := dk_31 (dk_at dksX6_appendText_0 0 rfl rfl)
theorem dX6_appendText_1 : decode cX6_appendText 1 = .ok (.invokestatic 283, 3) := dk_184 1 27 (dk_at dksX6_appendText_0 1 rfl rfl)
theorem dX6_appendText_4 : decode cX6_appendText 4 = .ok (.istore_n 3, 1) := dk_62 (dk_at dksX6_appendText_0 4 rfl rfl)
theorem dX6_appendText_5 : decode cX6_appendText 5 = .ok (.aload_n 0, 1) := dk_42 (dk_at dksX6_appendText_0 5 rfl rfl)
theorem dX6_appendText_6 : decode cX6_appendText 6 = .ok (.iload_n 3, 1) := dk_29 (dk_at dksX6_appendText_0 6 rfl rfl)
theorem dX6_appendText_7 : decode cX6_appendText 7 = .ok (.ifCond .le 7, 3) := dk_158 0 7 (dk_at dksX6_appendText_0 7 rfl rfl)
theorem dX6_appendText_10 : decode cX6_appendText 10 = .ok (.iconst 1, 1) := dk_4 (dk_at dksX6_appendText_0 10 rfl rfl)
theorem dX6_appendText_11 : decode cX6_appendText 11 = .ok (.goto 4, 3) := dk_167 0 4 (dk_at dksX6_appendText_0 11 rfl rfl)
theorem dX6_appendText_14 : decode cX6_appendText 14 = .ok (.iconst 0, 1) := dk_3 (dk_at dksX6_appendText_0 14 rfl rfl)
theorem dX6_appendText_15 : decode cX6_appendText 15 = .ok (.aload_n 0, 1) := dk_42 (dk_at dksX6_appendText_0 15 rfl rfl)
theorem dX6_appendText_16 : decode cX6_appendText 16 = .ok (.getfield 287, 3) := dk_180 1 31 (dk_at dksX6_appendText_0 16 rfl rfl)
theorem dX6_appendText_19 : decode cX6_appendText 19 = .ok (.iload_n 3, 1) := dk_29 (dk_at dksX6_appendText_0 19 rfl rfl)
theorem dX6_appendText_20 : decode cX6_appendText 20 = .ok (.iadd, 1) := dk_96 (dk_at dksX6_appendText_0 20 rfl rfl)
theorem dX6_appendText_21 : decode cX6_appendText 21 = .ok (.bipush 80, 2) := dk_16 80 (dk_at dksX6_appendText_0 21 rfl rfl)
theorem dX6_appendText_23 : decode cX6_appendText 23 = .ok (.if_icmp .gt 7, 3) := dk_163 0 7 (dk_at dksX6_appendText_1 0 rfl rfl)
theorem dX6_appendText_26 : decode cX6_appendText 26 = .ok (.iconst 1, 1) := dk_4 (dk_at dksX6_appendText_1 3 rfl rfl)
theorem dX6_appendText_27 : decode cX6_appendText 27 = .ok (.goto 4, 3) := dk_167 0 4 (dk_at dksX6_appendText_1 4 rfl rfl)
theorem dX6_appendText_30 : decode cX6_appendText 30 = .ok (.iconst 0, 1) := dk_3 (dk_at dksX6_appendText_1 7 rfl rfl)
theorem dX6_appendText_31 : decode cX6_appendText 31 = .ok (.iconst 1, 1) := dk_4 (dk_at dksX6_appendText_1 8 rfl rfl)
theorem dX6_appendText_32 : decode cX6_appendText 32 = .ok (.invokevirtual 210, 3) := dk_182 0 210 (dk_at dksX6_appendText_1 9 rfl rfl)
theorem dX6_appendText_35 : decode cX6_appendText 35 = .ok (.ifCond .ne 5, 3) := dk_154 0 5 (dk_at dksX6_appendText_1 12 rfl rfl)
theorem dX6_appendText_38 : decode cX6_appendText 38 = .ok (.iconst 0, 1) := dk_3 (dk_at dksX6_appendText_1 15 rfl rfl)
theorem dX6_appendText_39 : decode cX6_appendText 39 = .ok (.ireturn, 1) := dk_172 (dk_at dksX6_appendText_1 16 rfl rfl)
theorem dX6_appendText_40 : decode cX6_appendText 40 = .ok (.iload_n 3, 1) := dk_29 (dk_at dksX6_appendText_1 17 rfl rfl)
theorem dX6_appendText_41 : decode cX6_appendText 41 = .ok (.iconst 1, 1) := dk_4 (dk_at dksX6_appendText_1 18 rfl rfl)
theorem dX6_appendText_42 : decode cX6_appendText 42 = .ok (.isub, 1) := dk_100 (dk_at dksX6_appendText_1 19 rfl rfl)
theorem dX6_appendText_43 : decode cX6_appendText 43 = .ok (.istore 4, 2) := dk_54 4 (dk_at dksX6_appendText_1 20 rfl rfl)
theorem dX6_appendText_45 : decode cX6_appendText 45 = .ok (.iload 4, 2) := dk_21 4 (dk_at dksX6_appendText_1 22 rfl rfl)
theorem dX6_appendText_47 : decode cX6_appendText 47 = .ok (.ifCond .lt 41, 3) := dk_155 0 41 (dk_at dksX6_appendText_2 0 rfl rfl)
theorem dX6_appendText_50 : decode cX6_appendText 50 = .ok (.aload_n 0, 1) := dk_42 (dk_at dksX6_appendText_2 3 rfl rfl)
theorem dX6_appendText_51 : decode cX6_appendText 51 = .ok (.getfield 17, 3) := dk_180 0 17 (dk_at dksX6_appendText_2 4 rfl rfl)
theorem dX6_appendText_54 : decode cX6_appendText 54 = .ok (.aload_n 0, 1) := dk_42 (dk_at dksX6_appendText_2 7 rfl rfl)
theorem dX6_appendText_55 : decode cX6_appendText 55 = .ok (.getfield 287, 3) := dk_180 1 31 (dk_at dksX6_appendText_2 8 rfl rfl)
theorem dX6_appendText_58 : decode cX6_appendText 58 = .ok (.lload_n 1, 1) := dk_31 (dk_at dksX6_appendText_2 11 rfl rfl)
theorem dX6_appendText_59 : decode cX6_appendText 59 = .ok (.bipush 8, 2) := dk_16 8 (dk_at dksX6_appendText_2 12 rfl rfl)
theorem dX6_appendText_61 : decode cX6_appendText 61 = .ok (.iload 4, 2) := dk_21 4 (dk_at dksX6_appendText_2 14 rfl rfl)
theorem dX6_appendText_63 : decode cX6_appendText 63 = .ok (.imul, 1) := dk_104 (dk_at dksX6_appendText_2 16 rfl rfl)
theorem dX6_appendText_64 : decode cX6_appendText 64 = .ok (.lushr, 1) := dk_125 (dk_at dksX6_appendText_2 17 rfl rfl)
theorem dX6_appendText_65 : decode cX6_appendText 65 = .ok (.ldc2_w 281, 3) := dk_20 1 25 (dk_at dksX6_appendText_2 18 rfl rfl)
theorem dX6_appendText_68 : decode cX6_appendText 68 = .ok (.land, 1) := dk_127 (dk_at dksX6_appendText_2 21 rfl rfl)
theorem dX6_appendText_69 : decode cX6_appendText 69 = .ok (.l2i, 1) := dk_136 (dk_at dksX6_appendText_2 22 rfl rfl)
theorem dX6_appendText_70 : decode cX6_appendText 70 = .ok (.i2c, 1) := dk_146 (dk_at dksX6_appendText_2 23 rfl rfl)
theorem dX6_appendText_71 : decode cX6_appendText 71 = .ok (.castore, 1) := dk_85 (dk_at dksX6_appendText_3 0 rfl rfl)
theorem dX6_appendText_72 : decode cX6_appendText 72 = .ok (.aload_n 0, 1) := dk_42 (dk_at dksX6_appendText_3 1 rfl rfl)
theorem dX6_appendText_73 : decode cX6_appendText 73 = .ok (.dup, 1) := dk_89 (dk_at dksX6_appendText_3 2 rfl rfl)
theorem dX6_appendText_74 : decode cX6_appendText 74 = .ok (.getfield 287, 3) := dk_180 1 31 (dk_at dksX6_appendText_3 3 rfl rfl)
theorem dX6_appendText_77 : decode cX6_appendText 77 = .ok (.iconst 1, 1) := dk_4 (dk_at dksX6_appendText_3 6 rfl rfl)
theorem dX6_appendText_78 : decode cX6_appendText 78 = .ok (.iadd, 1) := dk_96 (dk_at dksX6_appendText_3 7 rfl rfl)
theorem dX6_appendText_79 : decode cX6_appendText 79 = .ok (.putfield 287, 3) := dk_181 1 31 (dk_at dksX6_appendText_3 8 rfl rfl)
theorem dX6_appendText_82 : decode cX6_appendText 82 = .ok (.iinc 4 (-1), 3) := dk_132 4 255 (dk_at dksX6_appendText_3 11 rfl rfl)
theorem dX6_appendText_85 : decode cX6_appendText 85 = .ok (.goto (-40), 3) := dk_167 255 216 (dk_at dksX6_appendText_3 14 rfl rfl)
theorem dX6_appendText_88 : decode cX6_appendText 88 = .ok (.aload_n 0, 1) := dk_42 (dk_at dksX6_appendText_3 17 rfl rfl)
theorem dX6_appendText_89 : decode cX6_appendText 89 = .ok (.getfield 287, 3) := dk_180 1 31 (dk_at dksX6_appendText_3 18 rfl rfl)
theorem dX6_appendText_92 : decode cX6_appendText 92 = .ok (.ireturn, 1) := dk_172 (dk_at dksX6_appendText_3 21 rfl rfl)
abbrev cX6_characters : ByteArray := prog_10_method_106_code
def yX6_characters : MethodName := ⟨RX6, "characters", "(J)I"⟩
def dkwX6_characters_2 : List UInt8 := [184, 0, 70, 154, 0, 5, 3, 172, 132, 2, 1, 132, 4, 1, 167, 255, 201, 28, 172]
abbrev dktX6_characters_2 : List UInt8 := dkwX6_characters_2 ++ []
def dkwX6_characters_1 : List UInt8 := [127, 136, 54, 5, 21, 5, 154, 0, 8, 4, 62, 167, 0, 24, 29, 154, 0, 15, 21, 5, 16, 33, 16, 126]
abbrev dktX6_characters_1 : List UInt8 := dkwX6_characters_1 ++ dktX6_characters_2
def dkwX6_characters_0 : List UInt8 := [3, 61, 3, 62, 3, 54, 4, 21, 4, 16, 8, 162, 0, 54, 30, 16, 8, 21, 4, 104, 125, 20, 1, 25]
abbrev dktX6_characters_0 : List UInt8 := dkwX6_characters_0 ++ dktX6_characters_1
theorem dksX6_characters_0 : cX6_characters.data.toList.drop 0 = dktX6_characters_0 := by decide +kernel
theorem dksX6_characters_1 : cX6_characters.data.toList.drop 24 = dktX6_characters_1 := dk_seg dksX6_characters_0 24 rfl rfl
theorem dksX6_characters_2 : cX6_characters.data.toList.drop 48 = dktX6_characters_2 := dk_seg dksX6_characters_1 24 rfl rfl
theorem dX6_characters_0 : decode cX6_characters 0 = .ok (.iconst 0, 1) := dk_3 (dk_at dksX6_characters_0 0 rfl rfl)
theorem dX6_characters_1 : decode cX6_characters 1 = .ok (.istore_n 2, 1) := dk_61 (dk_at dksX6_characters_0 1 rfl rfl)
theorem dX6_characters_2 : decode cX6_characters 2 = .ok (.iconst 0, 1) := dk_3 (dk_at dksX6_characters_0 2 rfl rfl)
theorem dX6_characters_3 : decode cX6_characters 3 = .ok (.istore_n 3, 1) := dk_62 (dk_at dksX6_characters_0 3 rfl rfl)
theorem dX6_characters_4 : decode cX6_characters 4 = .ok (.iconst 0, 1) := dk_3 (dk_at dksX6_characters_0 4 rfl rfl)
theorem dX6_characters_5 : decode cX6_characters 5 = .ok (.istore 4, 2) := dk_54 4 (dk_at dksX6_characters_0 5 rfl rfl)
theorem dX6_characters_7 : decode cX6_characters 7 = .ok (.iload 4, 2) := dk_21 4 (dk_at dksX6_characters_0 7 rfl rfl)
theorem dX6_characters_9 : decode cX6_characters 9 = .ok (.bipush 8, 2) := dk_16 8 (dk_at dksX6_characters_0 9 rfl rfl)
theorem dX6_characters_11 : decode cX6_characters 11 = .ok (.if_icmp .ge 54, 3) := dk_162 0 54 (dk_at dksX6_characters_0 11 rfl rfl)
theorem dX6_characters_14 : decode cX6_characters 14 = .ok (.lload_n 0, 1) := dk_30 (dk_at dksX6_characters_0 14 rfl rfl)
theorem dX6_characters_15 : decode cX6_characters 15 = .ok (.bipush 8, 2) := dk_16 8 (dk_at dksX6_characters_0 15 rfl rfl)
theorem dX6_characters_17 : decode cX6_characters 17 = .ok (.iload 4, 2) := dk_21 4 (dk_at dksX6_characters_0 17 rfl rfl)
theorem dX6_characters_19 : decode cX6_characters 19 = .ok (.imul, 1) := dk_104 (dk_at dksX6_characters_0 19 rfl rfl)
theorem dX6_characters_20 : decode cX6_characters 20 = .ok (.lushr, 1) := dk_125 (dk_at dksX6_characters_0 20 rfl rfl)
theorem dX6_characters_21 : decode cX6_characters 21 = .ok (.ldc2_w 281, 3) := dk_20 1 25 (dk_at dksX6_characters_0 21 rfl rfl)
theorem dX6_characters_24 : decode cX6_characters 24 = .ok (.land, 1) := dk_127 (dk_at dksX6_characters_1 0 rfl rfl)
theorem dX6_characters_25 : decode cX6_characters 25 = .ok (.l2i, 1) := dk_136 (dk_at dksX6_characters_1 1 rfl rfl)
theorem dX6_characters_26 : decode cX6_characters 26 = .ok (.istore 5, 2) := dk_54 5 (dk_at dksX6_characters_1 2 rfl rfl)
theorem dX6_characters_28 : decode cX6_characters 28 = .ok (.iload 5, 2) := dk_21 5 (dk_at dksX6_characters_1 4 rfl rfl)
theorem dX6_characters_30 : decode cX6_characters 30 = .ok (.ifCond .ne 8, 3) := dk_154 0 8 (dk_at dksX6_characters_1 6 rfl rfl)
theorem dX6_characters_33 : decode cX6_characters 33 = .ok (.iconst 1, 1) := dk_4 (dk_at dksX6_characters_1 9 rfl rfl)
theorem dX6_characters_34 : decode cX6_characters 34 = .ok (.istore_n 3, 1) := dk_62 (dk_at dksX6_characters_1 10 rfl rfl)
theorem dX6_characters_35 : decode cX6_characters 35 = .ok (.goto 24, 3) := dk_167 0 24 (dk_at dksX6_characters_1 11 rfl rfl)
theorem dX6_characters_38 : decode cX6_characters 38 = .ok (.iload_n 3, 1) := dk_29 (dk_at dksX6_characters_1 14 rfl rfl)
theorem dX6_characters_39 : decode cX6_characters 39 = .ok (.ifCond .ne 15, 3) := dk_154 0 15 (dk_at dksX6_characters_1 15 rfl rfl)
theorem dX6_characters_42 : decode cX6_characters 42 = .ok (.iload 5, 2) := dk_21 5 (dk_at dksX6_characters_1 18 rfl rfl)
theorem dX6_characters_44 : decode cX6_characters 44 = .ok (.bipush 33, 2) := dk_16 33 (dk_at dksX6_characters_1 20 rfl rfl)
theorem dX6_characters_46 : decode cX6_characters 46 = .ok (.bipush 126, 2) := dk_16 126 (dk_at dksX6_characters_1 22 rfl rfl)
theorem dX6_characters_48 : decode cX6_characters 48 = .ok (.invokestatic 70, 3) := dk_184 0 70 (dk_at dksX6_characters_2 0 rfl rfl)
theorem dX6_characters_51 : decode cX6_characters 51 = .ok (.ifCond .ne 5, 3) := dk_154 0 5 (dk_at dksX6_characters_2 3 rfl rfl)
theorem dX6_characters_54 : decode cX6_characters 54 = .ok (.iconst 0, 1) := dk_3 (dk_at dksX6_characters_2 6 rfl rfl)
theorem dX6_characters_55 : decode cX6_characters 55 = .ok (.ireturn, 1) := dk_172 (dk_at dksX6_characters_2 7 rfl rfl)
theorem dX6_characters_56 : decode cX6_characters 56 = .ok (.iinc 2 1, 3) := dk_132 2 1 (dk_at dksX6_characters_2 8 rfl rfl)
theorem dX6_characters_59 : decode cX6_characters 59 = .ok (.iinc 4 1, 3) := dk_132 4 1 (dk_at dksX6_characters_2 11 rfl rfl)
theorem dX6_characters_62 : decode cX6_characters 62 = .ok (.goto (-55), 3) := dk_167 255 201 (dk_at dksX6_characters_2 14 rfl rfl)
theorem dX6_characters_65 : decode cX6_characters 65 = .ok (.iload_n 2, 1) := dk_28 (dk_at dksX6_characters_2 17 rfl rfl)
theorem dX6_characters_66 : decode cX6_characters 66 = .ok (.ireturn, 1) := dk_172 (dk_at dksX6_characters_2 18 rfl rfl)
abbrev cX6_clearText : ByteArray := prog_10_method_108_code
def yX6_clearText : MethodName := ⟨RX6, "clearText", "()I"⟩
def dkwX6_clearText_0 : List UInt8 := [42, 3, 181, 0, 55, 42, 180, 1, 31, 60, 42, 3, 181, 1, 31, 27, 172]
abbrev dktX6_clearText_0 : List UInt8 := dkwX6_clearText_0 ++ []
theorem dksX6_clearText_0 : cX6_clearText.data.toList.drop 0 = dktX6_clearText_0 := by decide +kernel
theorem dX6_clearText_0 : decode cX6_clearText 0 = .ok (.aload_n 0, 1) := dk_42 (dk_at dksX6_clearText_0 0 rfl rfl)
theorem dX6_clearText_1 : decode cX6_clearText 1 = .ok (.iconst 0, 1) := dk_3 (dk_at dksX6_clearText_0 1 rfl rfl)
theorem dX6_clearText_2 : decode cX6_clearText 2 = .ok (.putfield 55, 3) := dk_181 0 55 (dk_at dksX6_clearText_0 2 rfl rfl)
theorem dX6_clearText_5 : decode cX6_clearText 5 = .ok (.aload_n 0, 1) := dk_42 (dk_at dksX6_clearText_0 5 rfl rfl)
theorem dX6_clearText_6 : decode cX6_clearText 6 = .ok (.getfield 287, 3) := dk_180 1 31 (dk_at dksX6_clearText_0 6 rfl rfl)
theorem dX6_clearText_9 : decode cX6_clearText 9 = .ok (.istore_n 1, 1) := dk_60 (dk_at dksX6_clearText_0 9 rfl rfl)
theorem dX6_clearText_10 : decode cX6_clearText 10 = .ok (.aload_n 0, 1) := dk_42 (dk_at dksX6_clearText_0 10 rfl rfl)
theorem dX6_clearText_11 : decode cX6_clearText 11 = .ok (.iconst 0, 1) := dk_3 (dk_at dksX6_clearText_0 11 rfl rfl)
theorem dX6_clearText_12 : decode cX6_clearText 12 = .ok (.putfield 287, 3) := dk_181 1 31 (dk_at dksX6_clearText_0 12 rfl rfl)
theorem dX6_clearText_15 : decode cX6_clearText 15 = .ok (.iload_n 1, 1) := dk_27 (dk_at dksX6_clearText_0 15 rfl rfl)
theorem dX6_clearText_16 : decode cX6_clearText 16 = .ok (.ireturn, 1) := dk_172 (dk_at dksX6_clearText_0 16 rfl rfl)
abbrev cX6_textLength : ByteArray := prog_10_method_109_code
def yX6_textLength : MethodName := ⟨RX6, "textLength", "()I"⟩
def dkwX6_textLength_0 : List UInt8 := [42, 42, 180, 1, 31, 182, 0, 242, 172]
abbrev dktX6_textLength_0 : List UInt8 := dkwX6_textLength_0 ++ []
theorem dksX6_textLength_0 : cX6_textLength.data.toList.drop 0 = dktX6_textLength_0 := by decide +kernel
theorem dX6_textLength_0 : decode cX6_textLength 0 = .ok (.aload_n 0, 1) := dk_42 (dk_at dksX6_textLength_0 0 rfl rfl)
theorem dX6_textLength_1 : decode cX6_textLength 1 = .ok (.aload_n 0, 1) := dk_42 (dk_at dksX6_textLength_0 1 rfl rfl)
theorem dX6_textLength_2 : decode cX6_textLength 2 = .ok (.getfield 287, 3) := dk_180 1 31 (dk_at dksX6_textLength_0 2 rfl rfl)
theorem dX6_textLength_5 : decode cX6_textLength 5 = .ok (.invokevirtual 242, 3) := dk_182 0 242 (dk_at dksX6_textLength_0 5 rfl rfl)
theorem dX6_textLength_8 : decode cX6_textLength 8 = .ok (.ireturn, 1) := dk_172 (dk_at dksX6_textLength_0 8 rfl rfl)
abbrev cX6_textError : ByteArray := prog_10_method_117_code
def yX6_textError : MethodName := ⟨RX6, "textError", "()I"⟩
def dkwX6_textError_0 : List UInt8 := [42, 42, 182, 1, 66, 182, 0, 242, 172]
abbrev dktX6_textError_0 : List UInt8 := dkwX6_textError_0 ++ []
theorem dksX6_textError_0 : cX6_textError.data.toList.drop 0 = dktX6_textError_0 := by decide +kernel
theorem dX6_textError_0 : decode cX6_textError 0 = .ok (.aload_n 0, 1) := dk_42 (dk_at dksX6_textError_0 0 rfl rfl)
theorem dX6_textError_1 : decode cX6_textError 1 = .ok (.aload_n 0, 1) := dk_42 (dk_at dksX6_textError_0 1 rfl rfl)
theorem dX6_textError_2 : decode cX6_textError 2 = .ok (.invokevirtual 322, 3) := dk_182 1 66 (dk_at dksX6_textError_0 2 rfl rfl)
theorem dX6_textError_5 : decode cX6_textError 5 = .ok (.invokevirtual 242, 3) := dk_182 0 242 (dk_at dksX6_textError_0 5 rfl rfl)
theorem dX6_textError_8 : decode cX6_textError 8 = .ok (.ireturn, 1) := dk_172 (dk_at dksX6_textError_0 8 rfl rfl)
abbrev cX6_error : ByteArray := prog_10_method_116_code
def yX6_error : MethodName := ⟨RX6, "error", "()I"⟩
def dkwX6_error_1 : List UInt8 := [172, 42, 16, 59, 182, 1, 50, 154, 255, 230, 42, 180, 1, 34, 172, 42, 180, 1, 34, 172]
abbrev dktX6_error_1 : List UInt8 := dkwX6_error_1 ++ []
def dkwX6_error_0 : List UInt8 := [42, 3, 181, 1, 34, 42, 182, 1, 63, 153, 0, 30, 42, 180, 1, 34, 42, 180, 1, 31, 160, 0, 5, 2]
abbrev dktX6_error_0 : List UInt8 := dkwX6_error_0 ++ dktX6_error_1
theorem dksX6_error_0 : cX6_error.data.toList.drop 0 = dktX6_error_0 := by decide +kernel
theorem dksX6_error_1 : cX6_error.data.toList.drop 24 = dktX6_error_1 := dk_seg dksX6_error_0 24 rfl rfl
theorem dX6_error_0 : decode cX6_error 0 = .ok (.aload_n 0, 1) := dk_42 (dk_at dksX6_error_0 0 rfl rfl)
theorem dX6_error_1 : decode cX6_error 1 = .ok (.iconst 0, 1) := dk_3 (dk_at dksX6_error_0 1 rfl rfl)
theorem dX6_error_2 : decode cX6_error 2 = .ok (.putfield 290, 3) := dk_181 1 34 (dk_at dksX6_error_0 2 rfl rfl)
theorem dX6_error_5 : decode cX6_error 5 = .ok (.aload_n 0, 1) := dk_42 (dk_at dksX6_error_0 5 rfl rfl)
theorem dX6_error_6 : decode cX6_error 6 = .ok (.invokevirtual 319, 3) := dk_182 1 63 (dk_at dksX6_error_0 6 rfl rfl)
theorem dX6_error_9 : decode cX6_error 9 = .ok (.ifCond .eq 30, 3) := dk_153 0 30 (dk_at dksX6_error_0 9 rfl rfl)
theorem dX6_error_12 : decode cX6_error 12 = .ok (.aload_n 0, 1) := dk_42 (dk_at dksX6_error_0 12 rfl rfl)
theorem dX6_error_13 : decode cX6_error 13 = .ok (.getfield 290, 3) := dk_180 1 34 (dk_at dksX6_error_0 13 rfl rfl)
theorem dX6_error_16 : decode cX6_error 16 = .ok (.aload_n 0, 1) := dk_42 (dk_at dksX6_error_0 16 rfl rfl)
theorem dX6_error_17 : decode cX6_error 17 = .ok (.getfield 287, 3) := dk_180 1 31 (dk_at dksX6_error_0 17 rfl rfl)
theorem dX6_error_20 : decode cX6_error 20 = .ok (.if_icmp .ne 5, 3) := dk_160 0 5 (dk_at dksX6_error_0 20 rfl rfl)
theorem dX6_error_23 : decode cX6_error 23 = .ok (.iconst (-1), 1) := dk_2 (dk_at dksX6_error_0 23 rfl rfl)
theorem dX6_error_24 : decode cX6_error 24 = .ok (.ireturn, 1) := dk_172 (dk_at dksX6_error_1 0 rfl rfl)
theorem dX6_error_25 : decode cX6_error 25 = .ok (.aload_n 0, 1) := dk_42 (dk_at dksX6_error_1 1 rfl rfl)
theorem dX6_error_26 : decode cX6_error 26 = .ok (.bipush 59, 2) := dk_16 59 (dk_at dksX6_error_1 2 rfl rfl)
theorem dX6_error_28 : decode cX6_error 28 = .ok (.invokevirtual 306, 3) := dk_182 1 50 (dk_at dksX6_error_1 4 rfl rfl)
theorem dX6_error_31 : decode cX6_error 31 = .ok (.ifCond .ne (-26), 3) := dk_154 255 230 (dk_at dksX6_error_1 7 rfl rfl)
theorem dX6_error_34 : decode cX6_error 34 = .ok (.aload_n 0, 1) := dk_42 (dk_at dksX6_error_1 10 rfl rfl)
theorem dX6_error_35 : decode cX6_error 35 = .ok (.getfield 290, 3) := dk_180 1 34 (dk_at dksX6_error_1 11 rfl rfl)
theorem dX6_error_38 : decode cX6_error 38 = .ok (.ireturn, 1) := dk_172 (dk_at dksX6_error_1 14 rfl rfl)
theorem dX6_error_39 : decode cX6_error 39 = .ok (.aload_n 0, 1) := dk_42 (dk_at dksX6_error_1 15 rfl rfl)
theorem dX6_error_40 : decode cX6_error 40 = .ok (.getfield 290, 3) := dk_180 1 34 (dk_at dksX6_error_1 16 rfl rfl)
theorem dX6_error_43 : decode cX6_error 43 = .ok (.ireturn, 1) := dk_172 (dk_at dksX6_error_1 19 rfl rfl)
abbrev cX6_readsCommand : ByteArray := prog_10_method_115_code
def yX6_readsCommand : MethodName := ⟨RX6, "readsCommand", "()Z"⟩
def dkwX6_readsCommand_3 : List UInt8 := [42, 5, 181, 1, 44, 42, 16, 42, 182, 1, 50, 172]
abbrev dktX6_readsCommand_3 : List UInt8 := dkwX6_readsCommand_3 ++ []
def dkwX6_readsCommand_2 : List UInt8 := [153, 0, 9, 42, 6, 182, 1, 60, 172, 42, 16, 33, 182, 1, 50, 153, 0, 9, 42, 7, 182, 1, 60, 172]
abbrev dktX6_readsCommand_2 : List UInt8 := dkwX6_readsCommand_2 ++ dktX6_readsCommand_3
def dkwX6_readsCommand_1 : List UInt8 := [153, 0, 11, 42, 4, 182, 1, 54, 167, 0, 8, 42, 3, 182, 1, 54, 172, 42, 16, 58, 182, 1, 50]
abbrev dktX6_readsCommand_1 : List UInt8 := dkwX6_readsCommand_1 ++ dktX6_readsCommand_2
def dkwX6_readsCommand_0 : List UInt8 := [42, 182, 1, 57, 154, 0, 5, 3, 172, 42, 16, 61, 182, 1, 50, 153, 0, 26, 42, 16, 39, 182, 1, 50]
abbrev dktX6_readsCommand_0 : List UInt8 := dkwX6_readsCommand_0 ++ dktX6_readsCommand_1
theorem dksX6_readsCommand_0 : cX6_readsCommand.data.toList.drop 0 = dktX6_readsCommand_0 := by decide +kernel
theorem dksX6_readsCommand_1 : cX6_readsCommand.data.toList.drop 24 = dktX6_readsCommand_1 := dk_seg dksX6_readsCommand_0 24 rfl rfl
theorem dksX6_readsCommand_2 : cX6_readsCommand.data.toList.drop 47 = dktX6_readsCommand_2 := dk_seg dksX6_readsCommand_1 23 rfl rfl
theorem dksX6_readsCommand_3 : cX6_readsCommand.data.toList.drop 71 = dktX6_readsCommand_3 := dk_seg dksX6_readsCommand_2 24 rfl rfl
theorem dX6_readsCommand_0 : decode cX6_readsCommand 0 = .ok (.aload_n 0, 1) := dk_42 (dk_at dksX6_readsCommand_0 0 rfl rfl)
theorem dX6_readsCommand_1 : decode cX6_readsCommand 1 = .ok (.invokevirtual 313, 3) := dk_182 1 57 (dk_at dksX6_readsCommand_0 1 rfl rfl)
theorem dX6_readsCommand_4 : decode cX6_readsCommand 4 = .ok (.ifCond .ne 5, 3) := dk_154 0 5 (dk_at dksX6_readsCommand_0 4 rfl rfl)
theorem dX6_readsCommand_7 : decode cX6_readsCommand 7 = .ok (.iconst 0, 1) := dk_3 (dk_at dksX6_readsCommand_0 7 rfl rfl)
theorem dX6_readsCommand_8 : decode cX6_readsCommand 8 = .ok (.ireturn, 1) := dk_172 (dk_at dksX6_readsCommand_0 8 rfl rfl)
theorem dX6_readsCommand_9 : decode cX6_readsCommand 9 = .ok (.aload_n 0, 1) := dk_42 (dk_at dksX6_readsCommand_0 9 rfl rfl)
theorem dX6_readsCommand_10 : decode cX6_readsCommand 10 = .ok (.bipush 61, 2) := dk_16 61 (dk_at dksX6_readsCommand_0 10 rfl rfl)
theorem dX6_readsCommand_12 : decode cX6_readsCommand 12 = .ok (.invokevirtual 306, 3) := dk_182 1 50 (dk_at dksX6_readsCommand_0 12 rfl rfl)
theorem dX6_readsCommand_15 : decode cX6_readsCommand 15 = .ok (.ifCond .eq 26, 3) := dk_153 0 26 (dk_at dksX6_readsCommand_0 15 rfl rfl)
theorem dX6_readsCommand_18 : decode cX6_readsCommand 18 = .ok (.aload_n 0, 1) := dk_42 (dk_at dksX6_readsCommand_0 18 rfl rfl)
theorem dX6_readsCommand_19 : decode cX6_readsCommand 19 = .ok (.bipush 39, 2) := dk_16 39 (dk_at dksX6_readsCommand_0 19 rfl rfl)
theorem dX6_readsCommand_21 : decode cX6_readsCommand 21 = .ok (.invokevirtual 306, 3) := dk_182 1 50 (dk_at dksX6_readsCommand_0 21 rfl rfl)
theorem dX6_readsCommand_24 : decode cX6_readsCommand 24 = .ok (.ifCond .eq 11, 3) := dk_153 0 11 (dk_at dksX6_readsCommand_1 0 rfl rfl)
theorem dX6_readsCommand_27 : decode cX6_readsCommand 27 = .ok (.aload_n 0, 1) := dk_42 (dk_at dksX6_readsCommand_1 3 rfl rfl)
theorem dX6_readsCommand_28 : decode cX6_readsCommand 28 = .ok (.iconst 1, 1) := dk_4 (dk_at dksX6_readsCommand_1 4 rfl rfl)
theorem dX6_readsCommand_29 : decode cX6_readsCommand 29 = .ok (.invokevirtual 310, 3) := dk_182 1 54 (dk_at dksX6_readsCommand_1 5 rfl rfl)
theorem dX6_readsCommand_32 : decode cX6_readsCommand 32 = .ok (.goto 8, 3) := dk_167 0 8 (dk_at dksX6_readsCommand_1 8 rfl rfl)
theorem dX6_readsCommand_35 : decode cX6_readsCommand 35 = .ok (.aload_n 0, 1) := dk_42 (dk_at dksX6_readsCommand_1 11 rfl rfl)
theorem dX6_readsCommand_36 : decode cX6_readsCommand 36 = .ok (.iconst 0, 1) := dk_3 (dk_at dksX6_readsCommand_1 12 rfl rfl)
theorem dX6_readsCommand_37 : decode cX6_readsCommand 37 = .ok (.invokevirtual 310, 3) := dk_182 1 54 (dk_at dksX6_readsCommand_1 13 rfl rfl)
theorem dX6_readsCommand_40 : decode cX6_readsCommand 40 = .ok (.ireturn, 1) := dk_172 (dk_at dksX6_readsCommand_1 16 rfl rfl)
theorem dX6_readsCommand_41 : decode cX6_readsCommand 41 = .ok (.aload_n 0, 1) := dk_42 (dk_at dksX6_readsCommand_1 17 rfl rfl)
theorem dX6_readsCommand_42 : decode cX6_readsCommand 42 = .ok (.bipush 58, 2) := dk_16 58 (dk_at dksX6_readsCommand_1 18 rfl rfl)
theorem dX6_readsCommand_44 : decode cX6_readsCommand 44 = .ok (.invokevirtual 306, 3) := dk_182 1 50 (dk_at dksX6_readsCommand_1 20 rfl rfl)
theorem dX6_readsCommand_47 : decode cX6_readsCommand 47 = .ok (.ifCond .eq 9, 3) := dk_153 0 9 (dk_at dksX6_readsCommand_2 0 rfl rfl)
theorem dX6_readsCommand_50 : decode cX6_readsCommand 50 = .ok (.aload_n 0, 1) := dk_42 (dk_at dksX6_readsCommand_2 3 rfl rfl)
theorem dX6_readsCommand_51 : decode cX6_readsCommand 51 = .ok (.iconst 3, 1) := dk_6 (dk_at dksX6_readsCommand_2 4 rfl rfl)
theorem dX6_readsCommand_52 : decode cX6_readsCommand 52 = .ok (.invokevirtual 316, 3) := dk_182 1 60 (dk_at dksX6_readsCommand_2 5 rfl rfl)
theorem dX6_readsCommand_55 : decode cX6_readsCommand 55 = .ok (.ireturn, 1) := dk_172 (dk_at dksX6_readsCommand_2 8 rfl rfl)
theorem dX6_readsCommand_56 : decode cX6_readsCommand 56 = .ok (.aload_n 0, 1) := dk_42 (dk_at dksX6_readsCommand_2 9 rfl rfl)
theorem dX6_readsCommand_57 : decode cX6_readsCommand 57 = .ok (.bipush 33, 2) := dk_16 33 (dk_at dksX6_readsCommand_2 10 rfl rfl)
theorem dX6_readsCommand_59 : decode cX6_readsCommand 59 = .ok (.invokevirtual 306, 3) := dk_182 1 50 (dk_at dksX6_readsCommand_2 12 rfl rfl)
theorem dX6_readsCommand_62 : decode cX6_readsCommand 62 = .ok (.ifCond .eq 9, 3) := dk_153 0 9 (dk_at dksX6_readsCommand_2 15 rfl rfl)
theorem dX6_readsCommand_65 : decode cX6_readsCommand 65 = .ok (.aload_n 0, 1) := dk_42 (dk_at dksX6_readsCommand_2 18 rfl rfl)
theorem dX6_readsCommand_66 : decode cX6_readsCommand 66 = .ok (.iconst 4, 1) := dk_7 (dk_at dksX6_readsCommand_2 19 rfl rfl)
theorem dX6_readsCommand_67 : decode cX6_readsCommand 67 = .ok (.invokevirtual 316, 3) := dk_182 1 60 (dk_at dksX6_readsCommand_2 20 rfl rfl)
theorem dX6_readsCommand_70 : decode cX6_readsCommand 70 = .ok (.ireturn, 1) := dk_172 (dk_at dksX6_readsCommand_2 23 rfl rfl)
theorem dX6_readsCommand_71 : decode cX6_readsCommand 71 = .ok (.aload_n 0, 1) := dk_42 (dk_at dksX6_readsCommand_3 0 rfl rfl)
theorem dX6_readsCommand_72 : decode cX6_readsCommand 72 = .ok (.iconst 2, 1) := dk_5 (dk_at dksX6_readsCommand_3 1 rfl rfl)
theorem dX6_readsCommand_73 : decode cX6_readsCommand 73 = .ok (.putfield 300, 3) := dk_181 1 44 (dk_at dksX6_readsCommand_3 2 rfl rfl)
theorem dX6_readsCommand_76 : decode cX6_readsCommand 76 = .ok (.aload_n 0, 1) := dk_42 (dk_at dksX6_readsCommand_3 5 rfl rfl)
theorem dX6_readsCommand_77 : decode cX6_readsCommand 77 = .ok (.bipush 42, 2) := dk_16 42 (dk_at dksX6_readsCommand_3 6 rfl rfl)
theorem dX6_readsCommand_79 : decode cX6_readsCommand 79 = .ok (.invokevirtual 306, 3) := dk_182 1 50 (dk_at dksX6_readsCommand_3 8 rfl rfl)
theorem dX6_readsCommand_82 : decode cX6_readsCommand 82 = .ok (.ireturn, 1) := dk_172 (dk_at dksX6_readsCommand_3 11 rfl rfl)
abbrev cX6_readsNumber : ByteArray := prog_10_method_112_code
def yX6_readsNumber : MethodName := ⟨RX6, "readsNumber", "()Z"⟩
def dkwX6_readsNumber_3 : List UInt8 := [181, 1, 41, 42, 89, 180, 1, 34, 4, 96, 181, 1, 34, 4, 172]
abbrev dktX6_readsNumber_3 : List UInt8 := dkwX6_readsNumber_3 ++ []
def dkwX6_readsNumber_2 : List UInt8 := [153, 0, 37, 42, 16, 10, 42, 180, 1, 41, 104, 42, 180, 0, 17, 42, 180, 1, 34, 52, 96, 16, 48, 100]
abbrev dktX6_readsNumber_2 : List UInt8 := dkwX6_readsNumber_2 ++ dktX6_readsNumber_3
def dkwX6_readsNumber_1 : List UInt8 := [181, 1, 41, 42, 89, 180, 1, 34, 4, 96, 181, 1, 34, 42, 180, 1, 41, 158, 0, 44, 42, 182, 1, 37]
abbrev dktX6_readsNumber_1 : List UInt8 := dkwX6_readsNumber_1 ++ dktX6_readsNumber_2
def dkwX6_readsNumber_0 : List UInt8 := [42, 182, 1, 37, 154, 0, 5, 3, 172, 42, 42, 180, 0, 17, 42, 180, 1, 34, 52, 16, 48, 100]
abbrev dktX6_readsNumber_0 : List UInt8 := dkwX6_readsNumber_0 ++ dktX6_readsNumber_1
theorem dksX6_readsNumber_0 : cX6_readsNumber.data.toList.drop 0 = dktX6_readsNumber_0 := by decide +kernel
theorem dksX6_readsNumber_1 : cX6_readsNumber.data.toList.drop 22 = dktX6_readsNumber_1 := dk_seg dksX6_readsNumber_0 22 rfl rfl
theorem dksX6_readsNumber_2 : cX6_readsNumber.data.toList.drop 46 = dktX6_readsNumber_2 := dk_seg dksX6_readsNumber_1 24 rfl rfl
theorem dksX6_readsNumber_3 : cX6_readsNumber.data.toList.drop 70 = dktX6_readsNumber_3 := dk_seg dksX6_readsNumber_2 24 rfl rfl
theorem dX6_readsNumber_0 : decode cX6_readsNumber 0 = .ok (.aload_n 0, 1) := dk_42 (dk_at dksX6_readsNumber_0 0 rfl rfl)
theorem dX6_readsNumber_1 : decode cX6_readsNumber 1 = .ok (.invokevirtual 293, 3) := dk_182 1 37 (dk_at dksX6_readsNumber_0 1 rfl rfl)
theorem dX6_readsNumber_4 : decode cX6_readsNumber 4 = .ok (.ifCond .ne 5, 3) := dk_154 0 5 (dk_at dksX6_readsNumber_0 4 rfl rfl)
theorem dX6_readsNumber_7 : decode cX6_readsNumber 7 = .ok (.iconst 0, 1) := dk_3 (dk_at dksX6_readsNumber_0 7 rfl rfl)
theorem dX6_readsNumber_8 : decode cX6_readsNumber 8 = .ok (.ireturn, 1) := dk_172 (dk_at dksX6_readsNumber_0 8 rfl rfl)
theorem dX6_readsNumber_9 : decode cX6_readsNumber 9 = .ok (.aload_n 0, 1) := dk_42 (dk_at dksX6_readsNumber_0 9 rfl rfl)
theorem dX6_readsNumber_10 : decode cX6_readsNumber 10 = .ok (.aload_n 0, 1) := dk_42 (dk_at dksX6_readsNumber_0 10 rfl rfl)
theorem dX6_readsNumber_11 : decode cX6_readsNumber 11 = .ok (.getfield 17, 3) := dk_180 0 17 (dk_at dksX6_readsNumber_0 11 rfl rfl)
theorem dX6_readsNumber_14 : decode cX6_readsNumber 14 = .ok (.aload_n 0, 1) := dk_42 (dk_at dksX6_readsNumber_0 14 rfl rfl)
theorem dX6_readsNumber_15 : decode cX6_readsNumber 15 = .ok (.getfield 290, 3) := dk_180 1 34 (dk_at dksX6_readsNumber_0 15 rfl rfl)
theorem dX6_readsNumber_18 : decode cX6_readsNumber 18 = .ok (.caload, 1) := dk_52 (dk_at dksX6_readsNumber_0 18 rfl rfl)
theorem dX6_readsNumber_19 : decode cX6_readsNumber 19 = .ok (.bipush 48, 2) := dk_16 48 (dk_at dksX6_readsNumber_0 19 rfl rfl)
theorem dX6_readsNumber_21 : decode cX6_readsNumber 21 = .ok (.isub, 1) := dk_100 (dk_at dksX6_readsNumber_0 21 rfl rfl)
theorem dX6_readsNumber_22 : decode cX6_readsNumber 22 = .ok (.putfield 297, 3) := dk_181 1 41 (dk_at dksX6_readsNumber_1 0 rfl rfl)
theorem dX6_readsNumber_25 : decode cX6_readsNumber 25 = .ok (.aload_n 0, 1) := dk_42 (dk_at dksX6_readsNumber_1 3 rfl rfl)
theorem dX6_readsNumber_26 : decode cX6_readsNumber 26 = .ok (.dup, 1) := dk_89 (dk_at dksX6_readsNumber_1 4 rfl rfl)
theorem dX6_readsNumber_27 : decode cX6_readsNumber 27 = .ok (.getfield 290, 3) := dk_180 1 34 (dk_at dksX6_readsNumber_1 5 rfl rfl)
theorem dX6_readsNumber_30 : decode cX6_readsNumber 30 = .ok (.iconst 1, 1) := dk_4 (dk_at dksX6_readsNumber_1 8 rfl rfl)
theorem dX6_readsNumber_31 : decode cX6_readsNumber 31 = .ok (.iadd, 1) := dk_96 (dk_at dksX6_readsNumber_1 9 rfl rfl)
theorem dX6_readsNumber_32 : decode cX6_readsNumber 32 = .ok (.putfield 290, 3) := dk_181 1 34 (dk_at dksX6_readsNumber_1 10 rfl rfl)
theorem dX6_readsNumber_35 : decode cX6_readsNumber 35 = .ok (.aload_n 0, 1) := dk_42 (dk_at dksX6_readsNumber_1 13 rfl rfl)
theorem dX6_readsNumber_36 : decode cX6_readsNumber 36 = .ok (.getfield 297, 3) := dk_180 1 41 (dk_at dksX6_readsNumber_1 14 rfl rfl)
theorem dX6_readsNumber_39 : decode cX6_readsNumber 39 = .ok (.ifCond .le 44, 3) := dk_158 0 44 (dk_at dksX6_readsNumber_1 17 rfl rfl)
theorem dX6_readsNumber_42 : decode cX6_readsNumber 42 = .ok (.aload_n 0, 1) := dk_42 (dk_at dksX6_readsNumber_1 20 rfl rfl)
theorem dX6_readsNumber_43 : decode cX6_readsNumber 43 = .ok (.invokevirtual 293, 3) := dk_182 1 37 (dk_at dksX6_readsNumber_1 21 rfl rfl)
theorem dX6_readsNumber_46 : decode cX6_readsNumber 46 = .ok (.ifCond .eq 37, 3) := dk_153 0 37 (dk_at dksX6_readsNumber_2 0 rfl rfl)
theorem dX6_readsNumber_49 : decode cX6_readsNumber 49 = .ok (.aload_n 0, 1) := dk_42 (dk_at dksX6_readsNumber_2 3 rfl rfl)
theorem dX6_readsNumber_50 : decode cX6_readsNumber 50 = .ok (.bipush 10, 2) := dk_16 10 (dk_at dksX6_readsNumber_2 4 rfl rfl)
theorem dX6_readsNumber_52 : decode cX6_readsNumber 52 = .ok (.aload_n 0, 1) := dk_42 (dk_at dksX6_readsNumber_2 6 rfl rfl)
theorem dX6_readsNumber_53 : decode cX6_readsNumber 53 = .ok (.getfield 297, 3) := dk_180 1 41 (dk_at dksX6_readsNumber_2 7 rfl rfl)
theorem dX6_readsNumber_56 : decode cX6_readsNumber 56 = .ok (.imul, 1) := dk_104 (dk_at dksX6_readsNumber_2 10 rfl rfl)
theorem dX6_readsNumber_57 : decode cX6_readsNumber 57 = .ok (.aload_n 0, 1) := dk_42 (dk_at dksX6_readsNumber_2 11 rfl rfl)
theorem dX6_readsNumber_58 : decode cX6_readsNumber 58 = .ok (.getfield 17, 3) := dk_180 0 17 (dk_at dksX6_readsNumber_2 12 rfl rfl)
theorem dX6_readsNumber_61 : decode cX6_readsNumber 61 = .ok (.aload_n 0, 1) := dk_42 (dk_at dksX6_readsNumber_2 15 rfl rfl)
theorem dX6_readsNumber_62 : decode cX6_readsNumber 62 = .ok (.getfield 290, 3) := dk_180 1 34 (dk_at dksX6_readsNumber_2 16 rfl rfl)
theorem dX6_readsNumber_65 : decode cX6_readsNumber 65 = .ok (.caload, 1) := dk_52 (dk_at dksX6_readsNumber_2 19 rfl rfl)
theorem dX6_readsNumber_66 : decode cX6_readsNumber 66 = .ok (.iadd, 1) := dk_96 (dk_at dksX6_readsNumber_2 20 rfl rfl)
theorem dX6_readsNumber_67 : decode cX6_readsNumber 67 = .ok (.bipush 48, 2) := dk_16 48 (dk_at dksX6_readsNumber_2 21 rfl rfl)
theorem dX6_readsNumber_69 : decode cX6_readsNumber 69 = .ok (.isub, 1) := dk_100 (dk_at dksX6_readsNumber_2 23 rfl rfl)
theorem dX6_readsNumber_70 : decode cX6_readsNumber 70 = .ok (.putfield 297, 3) := dk_181 1 41 (dk_at dksX6_readsNumber_3 0 rfl rfl)
theorem dX6_readsNumber_73 : decode cX6_readsNumber 73 = .ok (.aload_n 0, 1) := dk_42 (dk_at dksX6_readsNumber_3 3 rfl rfl)
theorem dX6_readsNumber_74 : decode cX6_readsNumber 74 = .ok (.dup, 1) := dk_89 (dk_at dksX6_readsNumber_3 4 rfl rfl)
theorem dX6_readsNumber_75 : decode cX6_readsNumber 75 = .ok (.getfield 290, 3) := dk_180 1 34 (dk_at dksX6_readsNumber_3 5 rfl rfl)
theorem dX6_readsNumber_78 : decode cX6_readsNumber 78 = .ok (.iconst 1, 1) := dk_4 (dk_at dksX6_readsNumber_3 8 rfl rfl)
theorem dX6_readsNumber_79 : decode cX6_readsNumber 79 = .ok (.iadd, 1) := dk_96 (dk_at dksX6_readsNumber_3 9 rfl rfl)
theorem dX6_readsNumber_80 : decode cX6_readsNumber 80 = .ok (.putfield 290, 3) := dk_181 1 34 (dk_at dksX6_readsNumber_3 10 rfl rfl)
theorem dX6_readsNumber_83 : decode cX6_readsNumber 83 = .ok (.iconst 1, 1) := dk_4 (dk_at dksX6_readsNumber_3 13 rfl rfl)
theorem dX6_readsNumber_84 : decode cX6_readsNumber 84 = .ok (.ireturn, 1) := dk_172 (dk_at dksX6_readsNumber_3 14 rfl rfl)
abbrev cX6_isDigit : ByteArray := prog_10_method_111_code
def yX6_isDigit : MethodName := ⟨RX6, "isDigit", "()Z"⟩
def dkwX6_isDigit_1 : List UInt8 := [184, 0, 70, 153, 0, 7, 4, 167, 0, 4, 3, 172]
abbrev dktX6_isDigit_1 : List UInt8 := dkwX6_isDigit_1 ++ []
def dkwX6_isDigit_0 : List UInt8 := [42, 180, 1, 34, 42, 180, 1, 31, 162, 0, 26, 42, 180, 0, 17, 42, 180, 1, 34, 52, 16, 48, 16, 57]
abbrev dktX6_isDigit_0 : List UInt8 := dkwX6_isDigit_0 ++ dktX6_isDigit_1
theorem dksX6_isDigit_0 : cX6_isDigit.data.toList.drop 0 = dktX6_isDigit_0 := by decide +kernel
theorem dksX6_isDigit_1 : cX6_isDigit.data.toList.drop 24 = dktX6_isDigit_1 := dk_seg dksX6_isDigit_0 24 rfl rfl
theorem dX6_isDigit_0 : decode cX6_isDigit 0 = .ok (.aload_n 0, 1) := dk_42 (dk_at dksX6_isDigit_0 0 rfl rfl)
theorem dX6_isDigit_1 : decode cX6_isDigit 1 = .ok (.getfield 290, 3) := dk_180 1 34 (dk_at dksX6_isDigit_0 1 rfl rfl)
theorem dX6_isDigit_4 : decode cX6_isDigit 4 = .ok (.aload_n 0, 1) := dk_42 (dk_at dksX6_isDigit_0 4 rfl rfl)
theorem dX6_isDigit_5 : decode cX6_isDigit 5 = .ok (.getfield 287, 3) := dk_180 1 31 (dk_at dksX6_isDigit_0 5 rfl rfl)
theorem dX6_isDigit_8 : decode cX6_isDigit 8 = .ok (.if_icmp .ge 26, 3) := dk_162 0 26 (dk_at dksX6_isDigit_0 8 rfl rfl)
theorem dX6_isDigit_11 : decode cX6_isDigit 11 = .ok (.aload_n 0, 1) := dk_42 (dk_at dksX6_isDigit_0 11 rfl rfl)
theorem dX6_isDigit_12 : decode cX6_isDigit 12 = .ok (.getfield 17, 3) := dk_180 0 17 (dk_at dksX6_isDigit_0 12 rfl rfl)
theorem dX6_isDigit_15 : decode cX6_isDigit 15 = .ok (.aload_n 0, 1) := dk_42 (dk_at dksX6_isDigit_0 15 rfl rfl)
theorem dX6_isDigit_16 : decode cX6_isDigit 16 = .ok (.getfield 290, 3) := dk_180 1 34 (dk_at dksX6_isDigit_0 16 rfl rfl)
theorem dX6_isDigit_19 : decode cX6_isDigit 19 = .ok (.caload, 1) := dk_52 (dk_at dksX6_isDigit_0 19 rfl rfl)
theorem dX6_isDigit_20 : decode cX6_isDigit 20 = .ok (.bipush 48, 2) := dk_16 48 (dk_at dksX6_isDigit_0 20 rfl rfl)
theorem dX6_isDigit_22 : decode cX6_isDigit 22 = .ok (.bipush 57, 2) := dk_16 57 (dk_at dksX6_isDigit_0 22 rfl rfl)
theorem dX6_isDigit_24 : decode cX6_isDigit 24 = .ok (.invokestatic 70, 3) := dk_184 0 70 (dk_at dksX6_isDigit_1 0 rfl rfl)
theorem dX6_isDigit_27 : decode cX6_isDigit 27 = .ok (.ifCond .eq 7, 3) := dk_153 0 7 (dk_at dksX6_isDigit_1 3 rfl rfl)
theorem dX6_isDigit_30 : decode cX6_isDigit 30 = .ok (.iconst 1, 1) := dk_4 (dk_at dksX6_isDigit_1 6 rfl rfl)
theorem dX6_isDigit_31 : decode cX6_isDigit 31 = .ok (.goto 4, 3) := dk_167 0 4 (dk_at dksX6_isDigit_1 7 rfl rfl)
theorem dX6_isDigit_34 : decode cX6_isDigit 34 = .ok (.iconst 0, 1) := dk_3 (dk_at dksX6_isDigit_1 10 rfl rfl)
theorem dX6_isDigit_35 : decode cX6_isDigit 35 = .ok (.ireturn, 1) := dk_172 (dk_at dksX6_isDigit_1 11 rfl rfl)
abbrev cX6_takes : ByteArray := prog_10_method_110_code
def yX6_takes : MethodName := ⟨RX6, "takes", "(C)Z"⟩
def dkwX6_takes_1 : List UInt8 := [4, 167, 0, 4, 3, 61, 42, 89, 180, 1, 34, 28, 184, 0, 80, 96, 181, 1, 34, 28, 172]
abbrev dktX6_takes_1 : List UInt8 := dkwX6_takes_1 ++ []
def dkwX6_takes_0 : List UInt8 := [42, 180, 1, 34, 42, 180, 1, 31, 162, 0, 20, 42, 180, 0, 17, 42, 180, 1, 34, 52, 27, 160, 0, 7]
abbrev dktX6_takes_0 : List UInt8 := dkwX6_takes_0 ++ dktX6_takes_1
theorem dksX6_takes_0 : cX6_takes.data.toList.drop 0 = dktX6_takes_0 := by decide +kernel
theorem dksX6_takes_1 : cX6_takes.data.toList.drop 24 = dktX6_takes_1 := dk_seg dksX6_takes_0 24 rfl rfl
theorem dX6_takes_0 : decode cX6_takes 0 = .ok (.aload_n 0, 1) := dk_42 (dk_at dksX6_takes_0 0 rfl rfl)
theorem dX6_takes_1 : decode cX6_takes 1 = .ok (.getfield 290, 3) := dk_180 1 34 (dk_at dksX6_takes_0 1 rfl rfl)
theorem dX6_takes_4 : decode cX6_takes 4 = .ok (.aload_n 0, 1) := dk_42 (dk_at dksX6_takes_0 4 rfl rfl)
theorem dX6_takes_5 : decode cX6_takes 5 = .ok (.getfield 287, 3) := dk_180 1 31 (dk_at dksX6_takes_0 5 rfl rfl)
theorem dX6_takes_8 : decode cX6_takes 8 = .ok (.if_icmp .ge 20, 3) := dk_162 0 20 (dk_at dksX6_takes_0 8 rfl rfl)
theorem dX6_takes_11 : decode cX6_takes 11 = .ok (.aload_n 0, 1) := dk_42 (dk_at dksX6_takes_0 11 rfl rfl)
theorem dX6_takes_12 : decode cX6_takes 12 = .ok (.getfield 17, 3) := dk_180 0 17 (dk_at dksX6_takes_0 12 rfl rfl)
theorem dX6_takes_15 : decode cX6_takes 15 = .ok (.aload_n 0, 1) := dk_42 (dk_at dksX6_takes_0 15 rfl rfl)
theorem dX6_takes_16 : decode cX6_takes 16 = .ok (.getfield 290, 3) := dk_180 1 34 (dk_at dksX6_takes_0 16 rfl rfl)
theorem dX6_takes_19 : decode cX6_takes 19 = .ok (.caload, 1) := dk_52 (dk_at dksX6_takes_0 19 rfl rfl)
theorem dX6_takes_20 : decode cX6_takes 20 = .ok (.iload_n 1, 1) := dk_27 (dk_at dksX6_takes_0 20 rfl rfl)
theorem dX6_takes_21 : decode cX6_takes 21 = .ok (.if_icmp .ne 7, 3) := dk_160 0 7 (dk_at dksX6_takes_0 21 rfl rfl)
theorem dX6_takes_24 : decode cX6_takes 24 = .ok (.iconst 1, 1) := dk_4 (dk_at dksX6_takes_1 0 rfl rfl)
theorem dX6_takes_25 : decode cX6_takes 25 = .ok (.goto 4, 3) := dk_167 0 4 (dk_at dksX6_takes_1 1 rfl rfl)
theorem dX6_takes_28 : decode cX6_takes 28 = .ok (.iconst 0, 1) := dk_3 (dk_at dksX6_takes_1 4 rfl rfl)
theorem dX6_takes_29 : decode cX6_takes 29 = .ok (.istore_n 2, 1) := dk_61 (dk_at dksX6_takes_1 5 rfl rfl)
theorem dX6_takes_30 : decode cX6_takes 30 = .ok (.aload_n 0, 1) := dk_42 (dk_at dksX6_takes_1 6 rfl rfl)
theorem dX6_takes_31 : decode cX6_takes 31 = .ok (.dup, 1) := dk_89 (dk_at dksX6_takes_1 7 rfl rfl)
theorem dX6_takes_32 : decode cX6_takes 32 = .ok (.getfield 290, 3) := dk_180 1 34 (dk_at dksX6_takes_1 8 rfl rfl)
theorem dX6_takes_35 : decode cX6_takes 35 = .ok (.iload_n 2, 1) := dk_28 (dk_at dksX6_takes_1 11 rfl rfl)
theorem dX6_takes_36 : decode cX6_takes 36 = .ok (.invokestatic 80, 3) := dk_184 0 80 (dk_at dksX6_takes_1 12 rfl rfl)
theorem dX6_takes_39 : decode cX6_takes 39 = .ok (.iadd, 1) := dk_96 (dk_at dksX6_takes_1 15 rfl rfl)
theorem dX6_takes_40 : decode cX6_takes 40 = .ok (.putfield 290, 3) := dk_181 1 34 (dk_at dksX6_takes_1 16 rfl rfl)
theorem dX6_takes_43 : decode cX6_takes 43 = .ok (.iload_n 2, 1) := dk_28 (dk_at dksX6_takes_1 19 rfl rfl)
theorem dX6_takes_44 : decode cX6_takes 44 = .ok (.ireturn, 1) := dk_172 (dk_at dksX6_takes_1 20 rfl rfl)
abbrev cX6_readsLetter : ByteArray := prog_10_method_113_code
def yX6_readsLetter : MethodName := ⟨RX6, "readsLetter", "(I)Z"⟩
def dkwX6_readsLetter_3 : List UInt8 := [184, 0, 80, 96, 181, 1, 34, 28, 172]
abbrev dktX6_readsLetter_3 : List UInt8 := dkwX6_readsLetter_3 ++ []
def dkwX6_readsLetter_2 : List UInt8 := [180, 0, 17, 42, 180, 1, 34, 52, 16, 65, 100, 167, 0, 4, 2, 181, 1, 47, 42, 89, 180, 1, 34, 28]
abbrev dktX6_readsLetter_2 : List UInt8 := dkwX6_readsLetter_2 ++ dktX6_readsLetter_3
def dkwX6_readsLetter_1 : List UInt8 := [52, 16, 65, 16, 68, 184, 0, 70, 153, 0, 7, 4, 167, 0, 4, 3, 61, 42, 28, 153, 0, 18, 42]
abbrev dktX6_readsLetter_1 : List UInt8 := dkwX6_readsLetter_1 ++ dktX6_readsLetter_2
def dkwX6_readsLetter_0 : List UInt8 := [42, 27, 181, 1, 44, 42, 180, 1, 34, 42, 180, 1, 31, 162, 0, 26, 42, 180, 0, 17, 42, 180, 1, 34]
abbrev dktX6_readsLetter_0 : List UInt8 := dkwX6_readsLetter_0 ++ dktX6_readsLetter_1
theorem dksX6_readsLetter_0 : cX6_readsLetter.data.toList.drop 0 = dktX6_readsLetter_0 := by decide +kernel
theorem dksX6_readsLetter_1 : cX6_readsLetter.data.toList.drop 24 = dktX6_readsLetter_1 := dk_seg dksX6_readsLetter_0 24 rfl rfl
theorem dksX6_readsLetter_2 : cX6_readsLetter.data.toList.drop 47 = dktX6_readsLetter_2 := dk_seg dksX6_readsLetter_1 23 rfl rfl
theorem dksX6_readsLetter_3 : cX6_readsLetter.data.toList.drop 71 = dktX6_readsLetter_3 := dk_seg dksX6_readsLetter_2 24 rfl rfl
theorem dX6_readsLetter_0 : decode cX6_readsLetter 0 = .ok (.aload_n 0, 1) := dk_42 (dk_at dksX6_readsLetter_0 0 rfl rfl)
theorem dX6_readsLetter_1 : decode cX6_readsLetter 1 = .ok (.iload_n 1, 1) := dk_27 (dk_at dksX6_readsLetter_0 1 rfl rfl)
theorem dX6_readsLetter_2 : decode cX6_readsLetter 2 = .ok (.putfield 300, 3) := dk_181 1 44 (dk_at dksX6_readsLetter_0 2 rfl rfl)
theorem dX6_readsLetter_5 : decode cX6_readsLetter 5 = .ok (.aload_n 0, 1) := dk_42 (dk_at dksX6_readsLetter_0 5 rfl rfl)
theorem dX6_readsLetter_6 : decode cX6_readsLetter 6 = .ok (.getfield 290, 3) := dk_180 1 34 (dk_at dksX6_readsLetter_0 6 rfl rfl)
theorem dX6_readsLetter_9 : decode cX6_readsLetter 9 = .ok (.aload_n 0, 1) := dk_42 (dk_at dksX6_readsLetter_0 9 rfl rfl)
theorem dX6_readsLetter_10 : decode cX6_readsLetter 10 = .ok (.getfield 287, 3) := dk_180 1 31 (dk_at dksX6_readsLetter_0 10 rfl rfl)
theorem dX6_readsLetter_13 : decode cX6_readsLetter 13 = .ok (.if_icmp .ge 26, 3) := dk_162 0 26 (dk_at dksX6_readsLetter_0 13 rfl rfl)
theorem dX6_readsLetter_16 : decode cX6_readsLetter 16 = .ok (.aload_n 0, 1) := dk_42 (dk_at dksX6_readsLetter_0 16 rfl rfl)
theorem dX6_readsLetter_17 : decode cX6_readsLetter 17 = .ok (.getfield 17, 3) := dk_180 0 17 (dk_at dksX6_readsLetter_0 17 rfl rfl)
theorem dX6_readsLetter_20 : decode cX6_readsLetter 20 = .ok (.aload_n 0, 1) := dk_42 (dk_at dksX6_readsLetter_0 20 rfl rfl)
theorem dX6_readsLetter_21 : decode cX6_readsLetter 21 = .ok (.getfield 290, 3) := dk_180 1 34 (dk_at dksX6_readsLetter_0 21 rfl rfl)
theorem dX6_readsLetter_24 : decode cX6_readsLetter 24 = .ok (.caload, 1) := dk_52 (dk_at dksX6_readsLetter_1 0 rfl rfl)
theorem dX6_readsLetter_25 : decode cX6_readsLetter 25 = .ok (.bipush 65, 2) := dk_16 65 (dk_at dksX6_readsLetter_1 1 rfl rfl)
theorem dX6_readsLetter_27 : decode cX6_readsLetter 27 = .ok (.bipush 68, 2) := dk_16 68 (dk_at dksX6_readsLetter_1 3 rfl rfl)
theorem dX6_readsLetter_29 : decode cX6_readsLetter 29 = .ok (.invokestatic 70, 3) := dk_184 0 70 (dk_at dksX6_readsLetter_1 5 rfl rfl)
theorem dX6_readsLetter_32 : decode cX6_readsLetter 32 = .ok (.ifCond .eq 7, 3) := dk_153 0 7 (dk_at dksX6_readsLetter_1 8 rfl rfl)
theorem dX6_readsLetter_35 : decode cX6_readsLetter 35 = .ok (.iconst 1, 1) := dk_4 (dk_at dksX6_readsLetter_1 11 rfl rfl)
theorem dX6_readsLetter_36 : decode cX6_readsLetter 36 = .ok (.goto 4, 3) := dk_167 0 4 (dk_at dksX6_readsLetter_1 12 rfl rfl)
theorem dX6_readsLetter_39 : decode cX6_readsLetter 39 = .ok (.iconst 0, 1) := dk_3 (dk_at dksX6_readsLetter_1 15 rfl rfl)
theorem dX6_readsLetter_40 : decode cX6_readsLetter 40 = .ok (.istore_n 2, 1) := dk_61 (dk_at dksX6_readsLetter_1 16 rfl rfl)
theorem dX6_readsLetter_41 : decode cX6_readsLetter 41 = .ok (.aload_n 0, 1) := dk_42 (dk_at dksX6_readsLetter_1 17 rfl rfl)
theorem dX6_readsLetter_42 : decode cX6_readsLetter 42 = .ok (.iload_n 2, 1) := dk_28 (dk_at dksX6_readsLetter_1 18 rfl rfl)
theorem dX6_readsLetter_43 : decode cX6_readsLetter 43 = .ok (.ifCond .eq 18, 3) := dk_153 0 18 (dk_at dksX6_readsLetter_1 19 rfl rfl)
theorem dX6_readsLetter_46 : decode cX6_readsLetter 46 = .ok (.aload_n 0, 1) := dk_42 (dk_at dksX6_readsLetter_1 22 rfl rfl)
theorem dX6_readsLetter_47 : decode cX6_readsLetter 47 = .ok (.getfield 17, 3) := dk_180 0 17 (dk_at dksX6_readsLetter_2 0 rfl rfl)
theorem dX6_readsLetter_50 : decode cX6_readsLetter 50 = .ok (.aload_n 0, 1) := dk_42 (dk_at dksX6_readsLetter_2 3 rfl rfl)
theorem dX6_readsLetter_51 : decode cX6_readsLetter 51 = .ok (.getfield 290, 3) := dk_180 1 34 (dk_at dksX6_readsLetter_2 4 rfl rfl)
theorem dX6_readsLetter_54 : decode cX6_readsLetter 54 = .ok (.caload, 1) := dk_52 (dk_at dksX6_readsLetter_2 7 rfl rfl)
theorem dX6_readsLetter_55 : decode cX6_readsLetter 55 = .ok (.bipush 65, 2) := dk_16 65 (dk_at dksX6_readsLetter_2 8 rfl rfl)
theorem dX6_readsLetter_57 : decode cX6_readsLetter 57 = .ok (.isub, 1) := dk_100 (dk_at dksX6_readsLetter_2 10 rfl rfl)
theorem dX6_readsLetter_58 : decode cX6_readsLetter 58 = .ok (.goto 4, 3) := dk_167 0 4 (dk_at dksX6_readsLetter_2 11 rfl rfl)
theorem dX6_readsLetter_61 : decode cX6_readsLetter 61 = .ok (.iconst (-1), 1) := dk_2 (dk_at dksX6_readsLetter_2 14 rfl rfl)
theorem dX6_readsLetter_62 : decode cX6_readsLetter 62 = .ok (.putfield 303, 3) := dk_181 1 47 (dk_at dksX6_readsLetter_2 15 rfl rfl)
theorem dX6_readsLetter_65 : decode cX6_readsLetter 65 = .ok (.aload_n 0, 1) := dk_42 (dk_at dksX6_readsLetter_2 18 rfl rfl)
theorem dX6_readsLetter_66 : decode cX6_readsLetter 66 = .ok (.dup, 1) := dk_89 (dk_at dksX6_readsLetter_2 19 rfl rfl)
theorem dX6_readsLetter_67 : decode cX6_readsLetter 67 = .ok (.getfield 290, 3) := dk_180 1 34 (dk_at dksX6_readsLetter_2 20 rfl rfl)
theorem dX6_readsLetter_70 : decode cX6_readsLetter 70 = .ok (.iload_n 2, 1) := dk_28 (dk_at dksX6_readsLetter_2 23 rfl rfl)
theorem dX6_readsLetter_71 : decode cX6_readsLetter 71 = .ok (.invokestatic 80, 3) := dk_184 0 80 (dk_at dksX6_readsLetter_3 0 rfl rfl)
theorem dX6_readsLetter_74 : decode cX6_readsLetter 74 = .ok (.iadd, 1) := dk_96 (dk_at dksX6_readsLetter_3 3 rfl rfl)
theorem dX6_readsLetter_75 : decode cX6_readsLetter 75 = .ok (.putfield 290, 3) := dk_181 1 34 (dk_at dksX6_readsLetter_3 4 rfl rfl)
theorem dX6_readsLetter_78 : decode cX6_readsLetter 78 = .ok (.iload_n 2, 1) := dk_28 (dk_at dksX6_readsLetter_3 7 rfl rfl)
theorem dX6_readsLetter_79 : decode cX6_readsLetter 79 = .ok (.ireturn, 1) := dk_172 (dk_at dksX6_readsLetter_3 8 rfl rfl)
abbrev cX6_readsThing : ByteArray := prog_10_method_114_code
def yX6_readsThing : MethodName := ⟨RX6, "readsThing", "(I)Z"⟩
def dkwX6_readsThing_1 : List UInt8 := [153, 0, 7, 4, 167, 0, 4, 3, 172]
abbrev dktX6_readsThing_1 : List UInt8 := dkwX6_readsThing_1 ++ []
def dkwX6_readsThing_0 : List UInt8 := [42, 27, 181, 1, 44, 42, 2, 181, 1, 47, 42, 16, 46, 182, 1, 50, 154, 0, 11, 42, 27, 182, 1, 54]
abbrev dktX6_readsThing_0 : List UInt8 := dkwX6_readsThing_0 ++ dktX6_readsThing_1
theorem dksX6_readsThing_0 : cX6_readsThing.data.toList.drop 0 = dktX6_readsThing_0 := by decide +kernel
theorem dksX6_readsThing_1 : cX6_readsThing.data.toList.drop 24 = dktX6_readsThing_1 := dk_seg dksX6_readsThing_0 24 rfl rfl
theorem dX6_readsThing_0 : decode cX6_readsThing 0 = .ok (.aload_n 0, 1) := dk_42 (dk_at dksX6_readsThing_0 0 rfl rfl)
theorem dX6_readsThing_1 : decode cX6_readsThing 1 = .ok (.iload_n 1, 1) := dk_27 (dk_at dksX6_readsThing_0 1 rfl rfl)
theorem dX6_readsThing_2 : decode cX6_readsThing 2 = .ok (.putfield 300, 3) := dk_181 1 44 (dk_at dksX6_readsThing_0 2 rfl rfl)
theorem dX6_readsThing_5 : decode cX6_readsThing 5 = .ok (.aload_n 0, 1) := dk_42 (dk_at dksX6_readsThing_0 5 rfl rfl)
theorem dX6_readsThing_6 : decode cX6_readsThing 6 = .ok (.iconst (-1), 1) := dk_2 (dk_at dksX6_readsThing_0 6 rfl rfl)
theorem dX6_readsThing_7 : decode cX6_readsThing 7 = .ok (.putfield 303, 3) := dk_181 1 47 (dk_at dksX6_readsThing_0 7 rfl rfl)
theorem dX6_readsThing_10 : decode cX6_readsThing 10 = .ok (.aload_n 0, 1) := dk_42 (dk_at dksX6_readsThing_0 10 rfl rfl)
theorem dX6_readsThing_11 : decode cX6_readsThing 11 = .ok (.bipush 46, 2) := dk_16 46 (dk_at dksX6_readsThing_0 11 rfl rfl)
theorem dX6_readsThing_13 : decode cX6_readsThing 13 = .ok (.invokevirtual 306, 3) := dk_182 1 50 (dk_at dksX6_readsThing_0 13 rfl rfl)
theorem dX6_readsThing_16 : decode cX6_readsThing 16 = .ok (.ifCond .ne 11, 3) := dk_154 0 11 (dk_at dksX6_readsThing_0 16 rfl rfl)
theorem dX6_readsThing_19 : decode cX6_readsThing 19 = .ok (.aload_n 0, 1) := dk_42 (dk_at dksX6_readsThing_0 19 rfl rfl)
theorem dX6_readsThing_20 : decode cX6_readsThing 20 = .ok (.iload_n 1, 1) := dk_27 (dk_at dksX6_readsThing_0 20 rfl rfl)
theorem dX6_readsThing_21 : decode cX6_readsThing 21 = .ok (.invokevirtual 310, 3) := dk_182 1 54 (dk_at dksX6_readsThing_0 21 rfl rfl)
theorem dX6_readsThing_24 : decode cX6_readsThing 24 = .ok (.ifCond .eq 7, 3) := dk_153 0 7 (dk_at dksX6_readsThing_1 0 rfl rfl)
theorem dX6_readsThing_27 : decode cX6_readsThing 27 = .ok (.iconst 1, 1) := dk_4 (dk_at dksX6_readsThing_1 3 rfl rfl)
theorem dX6_readsThing_28 : decode cX6_readsThing 28 = .ok (.goto 4, 3) := dk_167 0 4 (dk_at dksX6_readsThing_1 4 rfl rfl)
theorem dX6_readsThing_31 : decode cX6_readsThing 31 = .ok (.iconst 0, 1) := dk_3 (dk_at dksX6_readsThing_1 7 rfl rfl)
theorem dX6_readsThing_32 : decode cX6_readsThing 32 = .ok (.ireturn, 1) := dk_172 (dk_at dksX6_readsThing_1 8 rfl rfl)
abbrev cX6_runText : ByteArray := prog_10_method_121_code
def yX6_runText : MethodName := ⟨RX6, "runText", "()I"⟩
def dkwX6_runText_4 : List UInt8 := [181, 1, 31, 27, 172]
abbrev dktX6_runText_4 : List UInt8 := dkwX6_runText_4 ++ []
def dkwX6_runText_3 : List UInt8 := [182, 1, 75, 62, 132, 1, 1, 42, 89, 180, 1, 34, 4, 96, 181, 1, 34, 167, 255, 207, 42, 3]
abbrev dktX6_runText_3 : List UInt8 := dkwX6_runText_3 ++ dktX6_runText_4
def dkwX6_runText_2 : List UInt8 := [180, 1, 31, 162, 0, 40, 42, 182, 1, 63, 153, 0, 33, 42, 182, 1, 72, 61, 28, 153, 0, 11, 42]
abbrev dktX6_runText_2 : List UInt8 := dkwX6_runText_2 ++ dktX6_runText_3
def dkwX6_runText_1 : List UInt8 := [42, 182, 0, 214, 42, 3, 181, 1, 34, 3, 60, 4, 61, 28, 153, 0, 51, 42, 180, 1, 34, 42]
abbrev dktX6_runText_1 : List UInt8 := dkwX6_runText_1 ++ dktX6_runText_2
def dkwX6_runText_0 : List UInt8 := [42, 42, 182, 1, 66, 2, 160, 0, 7, 4, 167, 0, 4, 3, 4, 4, 182, 0, 210, 154, 0, 5, 3, 172]
abbrev dktX6_runText_0 : List UInt8 := dkwX6_runText_0 ++ dktX6_runText_1
theorem dksX6_runText_0 : cX6_runText.data.toList.drop 0 = dktX6_runText_0 := by decide +kernel
theorem dksX6_runText_1 : cX6_runText.data.toList.drop 24 = dktX6_runText_1 := dk_seg dksX6_runText_0 24 rfl rfl
theorem dksX6_runText_2 : cX6_runText.data.toList.drop 46 = dktX6_runText_2 := dk_seg dksX6_runText_1 22 rfl rfl
theorem dksX6_runText_3 : cX6_runText.data.toList.drop 69 = dktX6_runText_3 := dk_seg dksX6_runText_2 23 rfl rfl
theorem dksX6_runText_4 : cX6_runText.data.toList.drop 91 = dktX6_runText_4 := dk_seg dksX6_runText_3 22 rfl rfl
theorem dX6_runText_0 : decode cX6_runText 0 = .ok (.aload_n 0, 1) := dk_42 (dk_at dksX6_runText_0 0 rfl rfl)
theorem dX6_runText_1 : decode cX6_runText 1 = .ok (.aload_n 0, 1) := dk_42 (dk_at dksX6_runText_0 1 rfl rfl)
theorem dX6_runText_2 : decode cX6_runText 2 = .ok (.invokevirtual 322, 3) := dk_182 1 66 (dk_at dksX6_runText_0 2 rfl rfl)
theorem dX6_runText_5 : decode cX6_runText 5 = .ok (.iconst (-1), 1) := dk_2 (dk_at dksX6_runText_0 5 rfl rfl)
theorem dX6_runText_6 : decode cX6_runText 6 = .ok (.if_icmp .ne 7, 3) := dk_160 0 7 (dk_at dksX6_runText_0 6 rfl rfl)
theorem dX6_runText_9 : decode cX6_runText 9 = .ok (.iconst 1, 1) := dk_4 (dk_at dksX6_runText_0 9 rfl rfl)
theorem dX6_runText_10 : decode cX6_runText 10 = .ok (.goto 4, 3) := dk_167 0 4 (dk_at dksX6_runText_0 10 rfl rfl)
theorem dX6_runText_13 : decode cX6_runText 13 = .ok (.iconst 0, 1) := dk_3 (dk_at dksX6_runText_0 13 rfl rfl)
theorem dX6_runText_14 : decode cX6_runText 14 = .ok (.iconst 1, 1) := dk_4 (dk_at dksX6_runText_0 14 rfl rfl)
theorem dX6_runText_15 : decode cX6_runText 15 = .ok (.iconst 1, 1) := dk_4 (dk_at dksX6_runText_0 15 rfl rfl)
theorem dX6_runText_16 : decode cX6_runText 16 = .ok (.invokevirtual 210, 3) := dk_182 0 210 (dk_at dksX6_runText_0 16 rfl rfl)
theorem dX6_runText_19 : decode cX6_runText 19 = .ok (.ifCond .ne 5, 3) := dk_154 0 5 (dk_at dksX6_runText_0 19 rfl rfl)
theorem dX6_runText_22 : decode cX6_runText 22 = .ok (.iconst 0, 1) := dk_3 (dk_at dksX6_runText_0 22 rfl rfl)
theorem dX6_runText_23 : decode cX6_runText 23 = .ok (.ireturn, 1) := dk_172 (dk_at dksX6_runText_0 23 rfl rfl)
theorem dX6_runText_24 : decode cX6_runText 24 = .ok (.aload_n 0, 1) := dk_42 (dk_at dksX6_runText_1 0 rfl rfl)
theorem dX6_runText_25 : decode cX6_runText 25 = .ok (.invokevirtual 214, 3) := dk_182 0 214 (dk_at dksX6_runText_1 1 rfl rfl)
theorem dX6_runText_28 : decode cX6_runText 28 = .ok (.aload_n 0, 1) := dk_42 (dk_at dksX6_runText_1 4 rfl rfl)
theorem dX6_runText_29 : decode cX6_runText 29 = .ok (.iconst 0, 1) := dk_3 (dk_at dksX6_runText_1 5 rfl rfl)
theorem dX6_runText_30 : decode cX6_runText 30 = .ok (.putfield 290, 3) := dk_181 1 34 (dk_at dksX6_runText_1 6 rfl rfl)
theorem dX6_runText_33 : decode cX6_runText 33 = .ok (.iconst 0, 1) := dk_3 (dk_at dksX6_runText_1 9 rfl rfl)
theorem dX6_runText_34 : decode cX6_runText 34 = .ok (.istore_n 1, 1) := dk_60 (dk_at dksX6_runText_1 10 rfl rfl)
theorem dX6_runText_35 : decode cX6_runText 35 = .ok (.iconst 1, 1) := dk_4 (dk_at dksX6_runText_1 11 rfl rfl)
theorem dX6_runText_36 : decode cX6_runText 36 = .ok (.istore_n 2, 1) := dk_61 (dk_at dksX6_runText_1 12 rfl rfl)
theorem dX6_runText_37 : decode cX6_runText 37 = .ok (.iload_n 2, 1) := dk_28 (dk_at dksX6_runText_1 13 rfl rfl)
theorem dX6_runText_38 : decode cX6_runText 38 = .ok (.ifCond .eq 51, 3) := dk_153 0 51 (dk_at dksX6_runText_1 14 rfl rfl)
theorem dX6_runText_41 : decode cX6_runText 41 = .ok (.aload_n 0, 1) := dk_42 (dk_at dksX6_runText_1 17 rfl rfl)
theorem dX6_runText_42 : decode cX6_runText 42 = .ok (.getfield 290, 3) := dk_180 1 34 (dk_at dksX6_runText_1 18 rfl rfl)
theorem dX6_runText_45 : decode cX6_runText 45 = .ok (.aload_n 0, 1) := dk_42 (dk_at dksX6_runText_1 21 rfl rfl)
theorem dX6_runText_46 : decode cX6_runText 46 = .ok (.getfield 287, 3) := dk_180 1 31 (dk_at dksX6_runText_2 0 rfl rfl)
theorem dX6_runText_49 : decode cX6_runText 49 = .ok (.if_icmp .ge 40, 3) := dk_162 0 40 (dk_at dksX6_runText_2 3 rfl rfl)
theorem dX6_runText_52 : decode cX6_runText 52 = .ok (.aload_n 0, 1) := dk_42 (dk_at dksX6_runText_2 6 rfl rfl)
theorem dX6_runText_53 : decode cX6_runText 53 = .ok (.invokevirtual 319, 3) := dk_182 1 63 (dk_at dksX6_runText_2 7 rfl rfl)
theorem dX6_runText_56 : decode cX6_runText 56 = .ok (.ifCond .eq 33, 3) := dk_153 0 33 (dk_at dksX6_runText_2 10 rfl rfl)
theorem dX6_runText_59 : decode cX6_runText 59 = .ok (.aload_n 0, 1) := dk_42 (dk_at dksX6_runText_2 13 rfl rfl)
theorem dX6_runText_60 : decode cX6_runText 60 = .ok (.invokevirtual 328, 3) := dk_182 1 72 (dk_at dksX6_runText_2 14 rfl rfl)
theorem dX6_runText_63 : decode cX6_runText 63 = .ok (.istore_n 2, 1) := dk_61 (dk_at dksX6_runText_2 17 rfl rfl)
theorem dX6_runText_64 : decode cX6_runText 64 = .ok (.iload_n 2, 1) := dk_28 (dk_at dksX6_runText_2 18 rfl rfl)
theorem dX6_runText_65 : decode cX6_runText 65 = .ok (.ifCond .eq 11, 3) := dk_153 0 11 (dk_at dksX6_runText_2 19 rfl rfl)
theorem dX6_runText_68 : decode cX6_runText 68 = .ok (.aload_n 0, 1) := dk_42 (dk_at dksX6_runText_2 22 rfl rfl)
theorem dX6_runText_69 : decode cX6_runText 69 = .ok (.invokevirtual 331, 3) := dk_182 1 75 (dk_at dksX6_runText_3 0 rfl rfl)
theorem dX6_runText_72 : decode cX6_runText 72 = .ok (.istore_n 3, 1) := dk_62 (dk_at dksX6_runText_3 3 rfl rfl)
theorem dX6_runText_73 : decode cX6_runText 73 = .ok (.iinc 1 1, 3) := dk_132 1 1 (dk_at dksX6_runText_3 4 rfl rfl)
theorem dX6_runText_76 : decode cX6_runText 76 = .ok (.aload_n 0, 1) := dk_42 (dk_at dksX6_runText_3 7 rfl rfl)
theorem dX6_runText_77 : decode cX6_runText 77 = .ok (.dup, 1) := dk_89 (dk_at dksX6_runText_3 8 rfl rfl)
theorem dX6_runText_78 : decode cX6_runText 78 = .ok (.getfield 290, 3) := dk_180 1 34 (dk_at dksX6_runText_3 9 rfl rfl)
theorem dX6_runText_81 : decode cX6_runText 81 = .ok (.iconst 1, 1) := dk_4 (dk_at dksX6_runText_3 12 rfl rfl)
theorem dX6_runText_82 : decode cX6_runText 82 = .ok (.iadd, 1) := dk_96 (dk_at dksX6_runText_3 13 rfl rfl)
theorem dX6_runText_83 : decode cX6_runText 83 = .ok (.putfield 290, 3) := dk_181 1 34 (dk_at dksX6_runText_3 14 rfl rfl)
theorem dX6_runText_86 : decode cX6_runText 86 = .ok (.goto (-49), 3) := dk_167 255 207 (dk_at dksX6_runText_3 17 rfl rfl)
theorem dX6_runText_89 : decode cX6_runText 89 = .ok (.aload_n 0, 1) := dk_42 (dk_at dksX6_runText_3 20 rfl rfl)
theorem dX6_runText_90 : decode cX6_runText 90 = .ok (.iconst 0, 1) := dk_3 (dk_at dksX6_runText_3 21 rfl rfl)
theorem dX6_runText_91 : decode cX6_runText 91 = .ok (.putfield 287, 3) := dk_181 1 31 (dk_at dksX6_runText_4 0 rfl rfl)
theorem dX6_runText_94 : decode cX6_runText 94 = .ok (.iload_n 1, 1) := dk_27 (dk_at dksX6_runText_4 3 rfl rfl)
theorem dX6_runText_95 : decode cX6_runText 95 = .ok (.ireturn, 1) := dk_172 (dk_at dksX6_runText_4 4 rfl rfl)
abbrev cX6_can : ByteArray := prog_10_method_119_code
def yX6_can : MethodName := ⟨RX6, "can", "()Z"⟩
def dkwX6_can_7 : List UInt8 := [42, 180, 1, 47, 182, 0, 223, 153, 0, 7, 4, 167, 0, 4, 3, 172]
abbrev dktX6_can_7 : List UInt8 := dkwX6_can_7 ++ []
def dkwX6_can_6 : List UInt8 := [184, 0, 102, 153, 0, 7, 4, 167, 0, 4, 3, 172, 42, 42, 180, 1, 41, 182, 0, 220, 153, 0, 18, 42]
abbrev dktX6_can_6 : List UInt8 := dkwX6_can_6 ++ dktX6_can_7
def dkwX6_can_5 : List UInt8 := [182, 1, 69, 2, 159, 0, 29, 42, 180, 0, 7, 16, 23, 42, 180, 1, 41, 96, 46, 42, 182, 1, 69]
abbrev dktX6_can_5 : List UInt8 := dkwX6_can_5 ++ dktX6_can_6
def dkwX6_can_4 : List UInt8 := [2, 159, 0, 7, 4, 167, 0, 4, 3, 172, 42, 42, 180, 1, 41, 182, 0, 251, 153, 0, 37, 42]
abbrev dktX6_can_4 : List UInt8 := dkwX6_can_4 ++ dktX6_can_5
def dkwX6_can_3 : List UInt8 := [158, 0, 7, 4, 167, 0, 4, 3, 172, 42, 42, 180, 1, 41, 182, 0, 251, 153, 0, 15, 42, 182, 1, 69]
abbrev dktX6_can_3 : List UInt8 := dkwX6_can_3 ++ dktX6_can_4
def dkwX6_can_2 : List UInt8 := [42, 42, 180, 1, 41, 182, 0, 220, 153, 0, 21, 42, 180, 0, 7, 6, 42, 180, 1, 41, 96, 46]
abbrev dktX6_can_2 : List UInt8 := dkwX6_can_2 ++ dktX6_can_3
def dkwX6_can_1 : List UInt8 := [170, 0, 0, 0, 0, 0, 0, 131, 0, 0, 0, 2, 0, 0, 0, 4, 0, 0, 0, 28, 0, 0, 0, 59, 0, 0, 0, 84]
abbrev dktX6_can_1 : List UInt8 := dkwX6_can_1 ++ dktX6_can_2
def dkwX6_can_0 : List UInt8 := [42, 180, 1, 44]
abbrev dktX6_can_0 : List UInt8 := dkwX6_can_0 ++ dktX6_can_1
theorem dksX6_can_0 : cX6_can.data.toList.drop 0 = dktX6_can_0 := by decide +kernel
theorem dksX6_can_1 : cX6_can.data.toList.drop 4 = dktX6_can_1 := dk_seg dksX6_can_0 4 rfl rfl
theorem dksX6_can_2 : cX6_can.data.toList.drop 32 = dktX6_can_2 := dk_seg dksX6_can_1 28 rfl rfl
theorem dksX6_can_3 : cX6_can.data.toList.drop 54 = dktX6_can_3 := dk_seg dksX6_can_2 22 rfl rfl
theorem dksX6_can_4 : cX6_can.data.toList.drop 78 = dktX6_can_4 := dk_seg dksX6_can_3 24 rfl rfl
theorem dksX6_can_5 : cX6_can.data.toList.drop 100 = dktX6_can_5 := dk_seg dksX6_can_4 22 rfl rfl
theorem dksX6_can_6 : cX6_can.data.toList.drop 123 = dktX6_can_6 := dk_seg dksX6_can_5 23 rfl rfl
theorem dksX6_can_7 : cX6_can.data.toList.drop 147 = dktX6_can_7 := dk_seg dksX6_can_6 24 rfl rfl
theorem dX6_can_0 : decode cX6_can 0 = .ok (.aload_n 0, 1) := dk_42 (dk_at dksX6_can_0 0 rfl rfl)
theorem dX6_can_1 : decode cX6_can 1 = .ok (.getfield 300, 3) := dk_180 1 44 (dk_at dksX6_can_0 1 rfl rfl)
theorem dX6_can_4 : decode cX6_can 4 = .ok (.tableswitch 131 2 4 #[28, 59, 84], 28) := by decide +kernel
theorem dX6_can_32 : decode cX6_can 32 = .ok (.aload_n 0, 1) := dk_42 (dk_at dksX6_can_2 0 rfl rfl)
theorem dX6_can_33 : decode cX6_can 33 = .ok (.aload_n 0, 1) := dk_42 (dk_at dksX6_can_2 1 rfl rfl)
theorem dX6_can_34 : decode cX6_can 34 = .ok (.getfield 297, 3) := dk_180 1 41 (dk_at dksX6_can_2 2 rfl rfl)
theorem dX6_can_37 : decode cX6_can 37 = .ok (.invokevirtual 220, 3) := dk_182 0 220 (dk_at dksX6_can_2 5 rfl rfl)
theorem dX6_can_40 : decode cX6_can 40 = .ok (.ifCond .eq 21, 3) := dk_153 0 21 (dk_at dksX6_can_2 8 rfl rfl)
theorem dX6_can_43 : decode cX6_can 43 = .ok (.aload_n 0, 1) := dk_42 (dk_at dksX6_can_2 11 rfl rfl)
theorem dX6_can_44 : decode cX6_can 44 = .ok (.getfield 7, 3) := dk_180 0 7 (dk_at dksX6_can_2 12 rfl rfl)
theorem dX6_can_47 : decode cX6_can 47 = .ok (.iconst 3, 1) := dk_6 (dk_at dksX6_can_2 15 rfl rfl)
theorem dX6_can_48 : decode cX6_can 48 = .ok (.aload_n 0, 1) := dk_42 (dk_at dksX6_can_2 16 rfl rfl)
theorem dX6_can_49 : decode cX6_can 49 = .ok (.getfield 297, 3) := dk_180 1 41 (dk_at dksX6_can_2 17 rfl rfl)
theorem dX6_can_52 : decode cX6_can 52 = .ok (.iadd, 1) := dk_96 (dk_at dksX6_can_2 20 rfl rfl)
theorem dX6_can_53 : decode cX6_can 53 = .ok (.iaload, 1) := dk_46 (dk_at dksX6_can_2 21 rfl rfl)
theorem dX6_can_54 : decode cX6_can 54 = .ok (.ifCond .le 7, 3) := dk_158 0 7 (dk_at dksX6_can_3 0 rfl rfl)
theorem dX6_can_57 : decode cX6_can 57 = .ok (.iconst 1, 1) := dk_4 (dk_at dksX6_can_3 3 rfl rfl)
theorem dX6_can_58 : decode cX6_can 58 = .ok (.goto 4, 3) := dk_167 0 4 (dk_at dksX6_can_3 4 rfl rfl)
theorem dX6_can_61 : decode cX6_can 61 = .ok (.iconst 0, 1) := dk_3 (dk_at dksX6_can_3 7 rfl rfl)
theorem dX6_can_62 : decode cX6_can 62 = .ok (.ireturn, 1) := dk_172 (dk_at dksX6_can_3 8 rfl rfl)
theorem dX6_can_63 : decode cX6_can 63 = .ok (.aload_n 0, 1) := dk_42 (dk_at dksX6_can_3 9 rfl rfl)
theorem dX6_can_64 : decode cX6_can 64 = .ok (.aload_n 0, 1) := dk_42 (dk_at dksX6_can_3 10 rfl rfl)
theorem dX6_can_65 : decode cX6_can 65 = .ok (.getfield 297, 3) := dk_180 1 41 (dk_at dksX6_can_3 11 rfl rfl)
theorem dX6_can_68 : decode cX6_can 68 = .ok (.invokevirtual 251, 3) := dk_182 0 251 (dk_at dksX6_can_3 14 rfl rfl)
theorem dX6_can_71 : decode cX6_can 71 = .ok (.ifCond .eq 15, 3) := dk_153 0 15 (dk_at dksX6_can_3 17 rfl rfl)
theorem dX6_can_74 : decode cX6_can 74 = .ok (.aload_n 0, 1) := dk_42 (dk_at dksX6_can_3 20 rfl rfl)
theorem dX6_can_75 : decode cX6_can 75 = .ok (.invokevirtual 325, 3) := dk_182 1 69 (dk_at dksX6_can_3 21 rfl rfl)
theorem dX6_can_78 : decode cX6_can 78 = .ok (.iconst (-1), 1) := dk_2 (dk_at dksX6_can_4 0 rfl rfl)
theorem dX6_can_79 : decode cX6_can 79 = .ok (.if_icmp .eq 7, 3) := dk_159 0 7 (dk_at dksX6_can_4 1 rfl rfl)
theorem dX6_can_82 : decode cX6_can 82 = .ok (.iconst 1, 1) := dk_4 (dk_at dksX6_can_4 4 rfl rfl)
theorem dX6_can_83 : decode cX6_can 83 = .ok (.goto 4, 3) := dk_167 0 4 (dk_at dksX6_can_4 5 rfl rfl)
theorem dX6_can_86 : decode cX6_can 86 = .ok (.iconst 0, 1) := dk_3 (dk_at dksX6_can_4 8 rfl rfl)
theorem dX6_can_87 : decode cX6_can 87 = .ok (.ireturn, 1) := dk_172 (dk_at dksX6_can_4 9 rfl rfl)
theorem dX6_can_88 : decode cX6_can 88 = .ok (.aload_n 0, 1) := dk_42 (dk_at dksX6_can_4 10 rfl rfl)
theorem dX6_can_89 : decode cX6_can 89 = .ok (.aload_n 0, 1) := dk_42 (dk_at dksX6_can_4 11 rfl rfl)
theorem dX6_can_90 : decode cX6_can 90 = .ok (.getfield 297, 3) := dk_180 1 41 (dk_at dksX6_can_4 12 rfl rfl)
theorem dX6_can_93 : decode cX6_can 93 = .ok (.invokevirtual 251, 3) := dk_182 0 251 (dk_at dksX6_can_4 15 rfl rfl)
theorem dX6_can_96 : decode cX6_can 96 = .ok (.ifCond .eq 37, 3) := dk_153 0 37 (dk_at dksX6_can_4 18 rfl rfl)
theorem dX6_can_99 : decode cX6_can 99 = .ok (.aload_n 0, 1) := dk_42 (dk_at dksX6_can_4 21 rfl rfl)
theorem dX6_can_100 : decode cX6_can 100 = .ok (.invokevirtual 325, 3) := dk_182 1 69 (dk_at dksX6_can_5 0 rfl rfl)
theorem dX6_can_103 : decode cX6_can 103 = .ok (.iconst (-1), 1) := dk_2 (dk_at dksX6_can_5 3 rfl rfl)
theorem dX6_can_104 : decode cX6_can 104 = .ok (.if_icmp .eq 29, 3) := dk_159 0 29 (dk_at dksX6_can_5 4 rfl rfl)
theorem dX6_can_107 : decode cX6_can 107 = .ok (.aload_n 0, 1) := dk_42 (dk_at dksX6_can_5 7 rfl rfl)
theorem dX6_can_108 : decode cX6_can 108 = .ok (.getfield 7, 3) := dk_180 0 7 (dk_at dksX6_can_5 8 rfl rfl)
theorem dX6_can_111 : decode cX6_can 111 = .ok (.bipush 23, 2) := dk_16 23 (dk_at dksX6_can_5 11 rfl rfl)
theorem dX6_can_113 : decode cX6_can 113 = .ok (.aload_n 0, 1) := dk_42 (dk_at dksX6_can_5 13 rfl rfl)
theorem dX6_can_114 : decode cX6_can 114 = .ok (.getfield 297, 3) := dk_180 1 41 (dk_at dksX6_can_5 14 rfl rfl)
theorem dX6_can_117 : decode cX6_can 117 = .ok (.iadd, 1) := dk_96 (dk_at dksX6_can_5 17 rfl rfl)
theorem dX6_can_118 : decode cX6_can 118 = .ok (.iaload, 1) := dk_46 (dk_at dksX6_can_5 18 rfl rfl)
theorem dX6_can_119 : decode cX6_can 119 = .ok (.aload_n 0, 1) := dk_42 (dk_at dksX6_can_5 19 rfl rfl)
theorem dX6_can_120 : decode cX6_can 120 = .ok (.invokevirtual 325, 3) := dk_182 1 69 (dk_at dksX6_can_5 20 rfl rfl)
theorem dX6_can_123 : decode cX6_can 123 = .ok (.invokestatic 102, 3) := dk_184 0 102 (dk_at dksX6_can_6 0 rfl rfl)
theorem dX6_can_126 : decode cX6_can 126 = .ok (.ifCond .eq 7, 3) := dk_153 0 7 (dk_at dksX6_can_6 3 rfl rfl)
theorem dX6_can_129 : decode cX6_can 129 = .ok (.iconst 1, 1) := dk_4 (dk_at dksX6_can_6 6 rfl rfl)
theorem dX6_can_130 : decode cX6_can 130 = .ok (.goto 4, 3) := dk_167 0 4 (dk_at dksX6_can_6 7 rfl rfl)
theorem dX6_can_133 : decode cX6_can 133 = .ok (.iconst 0, 1) := dk_3 (dk_at dksX6_can_6 10 rfl rfl)
theorem dX6_can_134 : decode cX6_can 134 = .ok (.ireturn, 1) := dk_172 (dk_at dksX6_can_6 11 rfl rfl)
theorem dX6_can_135 : decode cX6_can 135 = .ok (.aload_n 0, 1) := dk_42 (dk_at dksX6_can_6 12 rfl rfl)
theorem dX6_can_136 : decode cX6_can 136 = .ok (.aload_n 0, 1) := dk_42 (dk_at dksX6_can_6 13 rfl rfl)
theorem dX6_can_137 : decode cX6_can 137 = .ok (.getfield 297, 3) := dk_180 1 41 (dk_at dksX6_can_6 14 rfl rfl)
theorem dX6_can_140 : decode cX6_can 140 = .ok (.invokevirtual 220, 3) := dk_182 0 220 (dk_at dksX6_can_6 17 rfl rfl)
theorem dX6_can_143 : decode cX6_can 143 = .ok (.ifCond .eq 18, 3) := dk_153 0 18 (dk_at dksX6_can_6 20 rfl rfl)
theorem dX6_can_146 : decode cX6_can 146 = .ok (.aload_n 0, 1) := dk_42 (dk_at dksX6_can_6 23 rfl rfl)
theorem dX6_can_147 : decode cX6_can 147 = .ok (.aload_n 0, 1) := dk_42 (dk_at dksX6_can_7 0 rfl rfl)
theorem dX6_can_148 : decode cX6_can 148 = .ok (.getfield 303, 3) := dk_180 1 47 (dk_at dksX6_can_7 1 rfl rfl)
theorem dX6_can_151 : decode cX6_can 151 = .ok (.invokevirtual 223, 3) := dk_182 0 223 (dk_at dksX6_can_7 4 rfl rfl)
theorem dX6_can_154 : decode cX6_can 154 = .ok (.ifCond .eq 7, 3) := dk_153 0 7 (dk_at dksX6_can_7 7 rfl rfl)
theorem dX6_can_157 : decode cX6_can 157 = .ok (.iconst 1, 1) := dk_4 (dk_at dksX6_can_7 10 rfl rfl)
theorem dX6_can_158 : decode cX6_can 158 = .ok (.goto 4, 3) := dk_167 0 4 (dk_at dksX6_can_7 11 rfl rfl)
theorem dX6_can_161 : decode cX6_can 161 = .ok (.iconst 0, 1) := dk_3 (dk_at dksX6_can_7 14 rfl rfl)
theorem dX6_can_162 : decode cX6_can 162 = .ok (.ireturn, 1) := dk_172 (dk_at dksX6_can_7 15 rfl rfl)
abbrev cX6_thing : ByteArray := prog_10_method_118_code
def yX6_thing : MethodName := ⟨RX6, "thing", "()I"⟩
def dkwX6_thing_1 : List UInt8 := [180, 0, 7, 4, 46, 162, 0, 10, 42, 180, 1, 47, 167, 0, 4, 2, 172]
abbrev dktX6_thing_1 : List UInt8 := dkwX6_thing_1 ++ []
def dkwX6_thing_0 : List UInt8 := [42, 180, 1, 47, 2, 160, 0, 12, 42, 180, 0, 7, 4, 46, 167, 0, 24, 42, 180, 1, 47, 42]
abbrev dktX6_thing_0 : List UInt8 := dkwX6_thing_0 ++ dktX6_thing_1
theorem dksX6_thing_0 : cX6_thing.data.toList.drop 0 = dktX6_thing_0 := by decide +kernel
theorem dksX6_thing_1 : cX6_thing.data.toList.drop 22 = dktX6_thing_1 := dk_seg dksX6_thing_0 22 rfl rfl
theorem dX6_thing_0 : decode cX6_thing 0 = .ok (.aload_n 0, 1) := dk_42 (dk_at dksX6_thing_0 0 rfl rfl)
theorem dX6_thing_1 : decode cX6_thing 1 = .ok (.getfield 303, 3) := dk_180 1 47 (dk_at dksX6_thing_0 1 rfl rfl)
theorem dX6_thing_4 : decode cX6_thing 4 = .ok (.iconst (-1), 1) := dk_2 (dk_at dksX6_thing_0 4 rfl rfl)
theorem dX6_thing_5 : decode cX6_thing 5 = .ok (.if_icmp .ne 12, 3) := dk_160 0 12 (dk_at dksX6_thing_0 5 rfl rfl)
theorem dX6_thing_8 : decode cX6_thing 8 = .ok (.aload_n 0, 1) := dk_42 (dk_at dksX6_thing_0 8 rfl rfl)
theorem dX6_thing_9 : decode cX6_thing 9 = .ok (.getfield 7, 3) := dk_180 0 7 (dk_at dksX6_thing_0 9 rfl rfl)
theorem dX6_thing_12 : decode cX6_thing 12 = .ok (.iconst 1, 1) := dk_4 (dk_at dksX6_thing_0 12 rfl rfl)
theorem dX6_thing_13 : decode cX6_thing 13 = .ok (.iaload, 1) := dk_46 (dk_at dksX6_thing_0 13 rfl rfl)
theorem dX6_thing_14 : decode cX6_thing 14 = .ok (.goto 24, 3) := dk_167 0 24 (dk_at dksX6_thing_0 14 rfl rfl)
theorem dX6_thing_17 : decode cX6_thing 17 = .ok (.aload_n 0, 1) := dk_42 (dk_at dksX6_thing_0 17 rfl rfl)
theorem dX6_thing_18 : decode cX6_thing 18 = .ok (.getfield 303, 3) := dk_180 1 47 (dk_at dksX6_thing_0 18 rfl rfl)
theorem dX6_thing_21 : decode cX6_thing 21 = .ok (.aload_n 0, 1) := dk_42 (dk_at dksX6_thing_0 21 rfl rfl)
theorem dX6_thing_22 : decode cX6_thing 22 = .ok (.getfield 7, 3) := dk_180 0 7 (dk_at dksX6_thing_1 0 rfl rfl)
theorem dX6_thing_25 : decode cX6_thing 25 = .ok (.iconst 1, 1) := dk_4 (dk_at dksX6_thing_1 3 rfl rfl)
theorem dX6_thing_26 : decode cX6_thing 26 = .ok (.iaload, 1) := dk_46 (dk_at dksX6_thing_1 4 rfl rfl)
theorem dX6_thing_27 : decode cX6_thing 27 = .ok (.if_icmp .ge 10, 3) := dk_162 0 10 (dk_at dksX6_thing_1 5 rfl rfl)
theorem dX6_thing_30 : decode cX6_thing 30 = .ok (.aload_n 0, 1) := dk_42 (dk_at dksX6_thing_1 8 rfl rfl)
theorem dX6_thing_31 : decode cX6_thing 31 = .ok (.getfield 303, 3) := dk_180 1 47 (dk_at dksX6_thing_1 9 rfl rfl)
theorem dX6_thing_34 : decode cX6_thing 34 = .ok (.goto 4, 3) := dk_167 0 4 (dk_at dksX6_thing_1 12 rfl rfl)
theorem dX6_thing_37 : decode cX6_thing 37 = .ok (.iconst (-1), 1) := dk_2 (dk_at dksX6_thing_1 15 rfl rfl)
theorem dX6_thing_38 : decode cX6_thing 38 = .ok (.ireturn, 1) := dk_172 (dk_at dksX6_thing_1 16 rfl rfl)
abbrev cX6_does : ByteArray := prog_10_method_120_code
def yX6_does : MethodName := ⟨RX6, "does", "()I"⟩
def dkwX6_does_5 : List UInt8 := [167, 0, 4, 3, 182, 0, 226, 172]
abbrev dktX6_does_5 : List UInt8 := dkwX6_does_5 ++ []
def dkwX6_does_4 : List UInt8 := [130, 126, 79, 3, 172, 42, 42, 180, 1, 41, 42, 180, 1, 47, 42, 180, 1, 44, 4, 160, 0, 7, 4]
abbrev dktX6_does_4 : List UInt8 := dkwX6_does_4 ++ dktX6_does_5
def dkwX6_does_3 : List UInt8 := [182, 1, 1, 172, 42, 180, 0, 7, 16, 23, 42, 180, 1, 41, 96, 92, 46, 4, 42, 182, 1, 69, 120, 2]
abbrev dktX6_does_3 : List UInt8 := dkwX6_does_3 ++ dktX6_does_4
def dkwX6_does_2 : List UInt8 := [42, 180, 0, 7, 6, 42, 180, 1, 41, 96, 3, 79, 3, 172, 42, 42, 180, 1, 41, 42, 182, 1, 69]
abbrev dktX6_does_2 : List UInt8 := dkwX6_does_2 ++ dktX6_does_3
def dkwX6_does_1 : List UInt8 := [170, 0, 0, 0, 0, 0, 0, 80, 0, 0, 0, 2, 0, 0, 0, 4, 0, 0, 0, 28, 0, 0, 0, 42, 0, 0, 0, 55]
abbrev dktX6_does_1 : List UInt8 := dkwX6_does_1 ++ dktX6_does_2
def dkwX6_does_0 : List UInt8 := [42, 180, 1, 44]
abbrev dktX6_does_0 : List UInt8 := dkwX6_does_0 ++ dktX6_does_1
theorem dksX6_does_0 : cX6_does.data.toList.drop 0 = dktX6_does_0 := by decide +kernel
theorem dksX6_does_1 : cX6_does.data.toList.drop 4 = dktX6_does_1 := dk_seg dksX6_does_0 4 rfl rfl
theorem dksX6_does_2 : cX6_does.data.toList.drop 32 = dktX6_does_2 := dk_seg dksX6_does_1 28 rfl rfl
theorem dksX6_does_3 : cX6_does.data.toList.drop 55 = dktX6_does_3 := dk_seg dksX6_does_2 23 rfl rfl
theorem dksX6_does_4 : cX6_does.data.toList.drop 79 = dktX6_does_4 := dk_seg dksX6_does_3 24 rfl rfl
theorem dksX6_does_5 : cX6_does.data.toList.drop 102 = dktX6_does_5 := dk_seg dksX6_does_4 23 rfl rfl
theorem dX6_does_0 : decode cX6_does 0 = .ok (.aload_n 0, 1) := dk_42 (dk_at dksX6_does_0 0 rfl rfl)
theorem dX6_does_1 : decode cX6_does 1 = .ok (.getfield 300, 3) := dk_180 1 44 (dk_at dksX6_does_0 1 rfl rfl)
theorem dX6_does_4 : decode cX6_does 4 = .ok (.tableswitch 80 2 4 #[28, 42, 55], 28) := by decide +kernel
theorem dX6_does_32 : decode cX6_does 32 = .ok (.aload_n 0, 1) := dk_42 (dk_at dksX6_does_2 0 rfl rfl)
theorem dX6_does_33 : decode cX6_does 33 = .ok (.getfield 7, 3) := dk_180 0 7 (dk_at dksX6_does_2 1 rfl rfl)
theorem dX6_does_36 : decode cX6_does 36 = .ok (.iconst 3, 1) := dk_6 (dk_at dksX6_does_2 4 rfl rfl)
theorem dX6_does_37 : decode cX6_does 37 = .ok (.aload_n 0, 1) := dk_42 (dk_at dksX6_does_2 5 rfl rfl)
theorem dX6_does_38 : decode cX6_does 38 = .ok (.getfield 297, 3) := dk_180 1 41 (dk_at dksX6_does_2 6 rfl rfl)
theorem dX6_does_41 : decode cX6_does 41 = .ok (.iadd, 1) := dk_96 (dk_at dksX6_does_2 9 rfl rfl)
theorem dX6_does_42 : decode cX6_does 42 = .ok (.iconst 0, 1) := dk_3 (dk_at dksX6_does_2 10 rfl rfl)
theorem dX6_does_43 : decode cX6_does 43 = .ok (.iastore, 1) := dk_79 (dk_at dksX6_does_2 11 rfl rfl)
theorem dX6_does_44 : decode cX6_does 44 = .ok (.iconst 0, 1) := dk_3 (dk_at dksX6_does_2 12 rfl rfl)
theorem dX6_does_45 : decode cX6_does 45 = .ok (.ireturn, 1) := dk_172 (dk_at dksX6_does_2 13 rfl rfl)
theorem dX6_does_46 : decode cX6_does 46 = .ok (.aload_n 0, 1) := dk_42 (dk_at dksX6_does_2 14 rfl rfl)
theorem dX6_does_47 : decode cX6_does 47 = .ok (.aload_n 0, 1) := dk_42 (dk_at dksX6_does_2 15 rfl rfl)
theorem dX6_does_48 : decode cX6_does 48 = .ok (.getfield 297, 3) := dk_180 1 41 (dk_at dksX6_does_2 16 rfl rfl)
theorem dX6_does_51 : decode cX6_does 51 = .ok (.aload_n 0, 1) := dk_42 (dk_at dksX6_does_2 19 rfl rfl)
theorem dX6_does_52 : decode cX6_does 52 = .ok (.invokevirtual 325, 3) := dk_182 1 69 (dk_at dksX6_does_2 20 rfl rfl)
theorem dX6_does_55 : decode cX6_does 55 = .ok (.invokevirtual 257, 3) := dk_182 1 1 (dk_at dksX6_does_3 0 rfl rfl)
theorem dX6_does_58 : decode cX6_does 58 = .ok (.ireturn, 1) := dk_172 (dk_at dksX6_does_3 3 rfl rfl)
theorem dX6_does_59 : decode cX6_does 59 = .ok (.aload_n 0, 1) := dk_42 (dk_at dksX6_does_3 4 rfl rfl)
theorem dX6_does_60 : decode cX6_does 60 = .ok (.getfield 7, 3) := dk_180 0 7 (dk_at dksX6_does_3 5 rfl rfl)
theorem dX6_does_63 : decode cX6_does 63 = .ok (.bipush 23, 2) := dk_16 23 (dk_at dksX6_does_3 8 rfl rfl)
theorem dX6_does_65 : decode cX6_does 65 = .ok (.aload_n 0, 1) := dk_42 (dk_at dksX6_does_3 10 rfl rfl)
theorem dX6_does_66 : decode cX6_does 66 = .ok (.getfield 297, 3) := dk_180 1 41 (dk_at dksX6_does_3 11 rfl rfl)
theorem dX6_does_69 : decode cX6_does 69 = .ok (.iadd, 1) := dk_96 (dk_at dksX6_does_3 14 rfl rfl)
theorem dX6_does_70 : decode cX6_does 70 = .ok (.dup2, 1) := dk_92 (dk_at dksX6_does_3 15 rfl rfl)
theorem dX6_does_71 : decode cX6_does 71 = .ok (.iaload, 1) := dk_46 (dk_at dksX6_does_3 16 rfl rfl)
theorem dX6_does_72 : decode cX6_does 72 = .ok (.iconst 1, 1) := dk_4 (dk_at dksX6_does_3 17 rfl rfl)
theorem dX6_does_73 : decode cX6_does 73 = .ok (.aload_n 0, 1) := dk_42 (dk_at dksX6_does_3 18 rfl rfl)
theorem dX6_does_74 : decode cX6_does 74 = .ok (.invokevirtual 325, 3) := dk_182 1 69 (dk_at dksX6_does_3 19 rfl rfl)
theorem dX6_does_77 : decode cX6_does 77 = .ok (.ishl, 1) := dk_120 (dk_at dksX6_does_3 22 rfl rfl)
theorem dX6_does_78 : decode cX6_does 78 = .ok (.iconst (-1), 1) := dk_2 (dk_at dksX6_does_3 23 rfl rfl)
theorem dX6_does_79 : decode cX6_does 79 = .ok (.ixor, 1) := dk_130 (dk_at dksX6_does_4 0 rfl rfl)
theorem dX6_does_80 : decode cX6_does 80 = .ok (.iand, 1) := dk_126 (dk_at dksX6_does_4 1 rfl rfl)
theorem dX6_does_81 : decode cX6_does 81 = .ok (.iastore, 1) := dk_79 (dk_at dksX6_does_4 2 rfl rfl)
theorem dX6_does_82 : decode cX6_does 82 = .ok (.iconst 0, 1) := dk_3 (dk_at dksX6_does_4 3 rfl rfl)
theorem dX6_does_83 : decode cX6_does 83 = .ok (.ireturn, 1) := dk_172 (dk_at dksX6_does_4 4 rfl rfl)
theorem dX6_does_84 : decode cX6_does 84 = .ok (.aload_n 0, 1) := dk_42 (dk_at dksX6_does_4 5 rfl rfl)
theorem dX6_does_85 : decode cX6_does 85 = .ok (.aload_n 0, 1) := dk_42 (dk_at dksX6_does_4 6 rfl rfl)
theorem dX6_does_86 : decode cX6_does 86 = .ok (.getfield 297, 3) := dk_180 1 41 (dk_at dksX6_does_4 7 rfl rfl)
theorem dX6_does_89 : decode cX6_does 89 = .ok (.aload_n 0, 1) := dk_42 (dk_at dksX6_does_4 10 rfl rfl)
theorem dX6_does_90 : decode cX6_does 90 = .ok (.getfield 303, 3) := dk_180 1 47 (dk_at dksX6_does_4 11 rfl rfl)
theorem dX6_does_93 : decode cX6_does 93 = .ok (.aload_n 0, 1) := dk_42 (dk_at dksX6_does_4 14 rfl rfl)
theorem dX6_does_94 : decode cX6_does 94 = .ok (.getfield 300, 3) := dk_180 1 44 (dk_at dksX6_does_4 15 rfl rfl)
theorem dX6_does_97 : decode cX6_does 97 = .ok (.iconst 1, 1) := dk_4 (dk_at dksX6_does_4 18 rfl rfl)
theorem dX6_does_98 : decode cX6_does 98 = .ok (.if_icmp .ne 7, 3) := dk_160 0 7 (dk_at dksX6_does_4 19 rfl rfl)
theorem dX6_does_101 : decode cX6_does 101 = .ok (.iconst 1, 1) := dk_4 (dk_at dksX6_does_4 22 rfl rfl)
theorem dX6_does_102 : decode cX6_does 102 = .ok (.goto 4, 3) := dk_167 0 4 (dk_at dksX6_does_5 0 rfl rfl)
theorem dX6_does_105 : decode cX6_does 105 = .ok (.iconst 0, 1) := dk_3 (dk_at dksX6_does_5 3 rfl rfl)
theorem dX6_does_106 : decode cX6_does 106 = .ok (.invokevirtual 226, 3) := dk_182 0 226 (dk_at dksX6_does_5 4 rfl rfl)
theorem dX6_does_109 : decode cX6_does 109 = .ok (.ireturn, 1) := dk_172 (dk_at dksX6_does_5 7 rfl rfl)
abbrev cX6_undo : ByteArray := prog_10_method_122_code
def yX6_undo : MethodName := ⟨RX6, "undo", "()I"⟩
def dkwX6_undo_1 : List UInt8 := [42, 180, 0, 59, 3, 182, 0, 62, 42, 89, 180, 0, 59, 4, 100, 181, 0, 59, 42, 180, 0, 59, 172]
abbrev dktX6_undo_1 : List UInt8 := dkwX6_undo_1 ++ []
def dkwX6_undo_0 : List UInt8 := [42, 42, 180, 0, 59, 158, 0, 7, 4, 167, 0, 4, 3, 4, 4, 182, 0, 210, 154, 0, 5, 3, 172, 42]
abbrev dktX6_undo_0 : List UInt8 := dkwX6_undo_0 ++ dktX6_undo_1
theorem dksX6_undo_0 : cX6_undo.data.toList.drop 0 = dktX6_undo_0 := by decide +kernel
theorem dksX6_undo_1 : cX6_undo.data.toList.drop 24 = dktX6_undo_1 := dk_seg dksX6_undo_0 24 rfl rfl
theorem dX6_undo_0 : decode cX6_undo 0 = .ok (.aload_n 0, 1) := dk_42 (dk_at dksX6_undo_0 0 rfl rfl)
theorem dX6_undo_1 : decode cX6_undo 1 = .ok (.aload_n 0, 1) := dk_42 (dk_at dksX6_undo_0 1 rfl rfl)
theorem dX6_undo_2 : decode cX6_undo 2 = .ok (.getfield 59, 3) := dk_180 0 59 (dk_at dksX6_undo_0 2 rfl rfl)
theorem dX6_undo_5 : decode cX6_undo 5 = .ok (.ifCond .le 7, 3) := dk_158 0 7 (dk_at dksX6_undo_0 5 rfl rfl)
theorem dX6_undo_8 : decode cX6_undo 8 = .ok (.iconst 1, 1) := dk_4 (dk_at dksX6_undo_0 8 rfl rfl)
theorem dX6_undo_9 : decode cX6_undo 9 = .ok (.goto 4, 3) := dk_167 0 4 (dk_at dksX6_undo_0 9 rfl rfl)
theorem dX6_undo_12 : decode cX6_undo 12 = .ok (.iconst 0, 1) := dk_3 (dk_at dksX6_undo_0 12 rfl rfl)
theorem dX6_undo_13 : decode cX6_undo 13 = .ok (.iconst 1, 1) := dk_4 (dk_at dksX6_undo_0 13 rfl rfl)
theorem dX6_undo_14 : decode cX6_undo 14 = .ok (.iconst 1, 1) := dk_4 (dk_at dksX6_undo_0 14 rfl rfl)
theorem dX6_undo_15 : decode cX6_undo 15 = .ok (.invokevirtual 210, 3) := dk_182 0 210 (dk_at dksX6_undo_0 15 rfl rfl)
theorem dX6_undo_18 : decode cX6_undo 18 = .ok (.ifCond .ne 5, 3) := dk_154 0 5 (dk_at dksX6_undo_0 18 rfl rfl)
theorem dX6_undo_21 : decode cX6_undo 21 = .ok (.iconst 0, 1) := dk_3 (dk_at dksX6_undo_0 21 rfl rfl)
theorem dX6_undo_22 : decode cX6_undo 22 = .ok (.ireturn, 1) := dk_172 (dk_at dksX6_undo_0 22 rfl rfl)
theorem dX6_undo_23 : decode cX6_undo 23 = .ok (.aload_n 0, 1) := dk_42 (dk_at dksX6_undo_0 23 rfl rfl)
theorem dX6_undo_24 : decode cX6_undo 24 = .ok (.aload_n 0, 1) := dk_42 (dk_at dksX6_undo_1 0 rfl rfl)
theorem dX6_undo_25 : decode cX6_undo 25 = .ok (.getfield 59, 3) := dk_180 0 59 (dk_at dksX6_undo_1 1 rfl rfl)
theorem dX6_undo_28 : decode cX6_undo 28 = .ok (.iconst 0, 1) := dk_3 (dk_at dksX6_undo_1 4 rfl rfl)
theorem dX6_undo_29 : decode cX6_undo 29 = .ok (.invokevirtual 62, 3) := dk_182 0 62 (dk_at dksX6_undo_1 5 rfl rfl)
theorem dX6_undo_32 : decode cX6_undo 32 = .ok (.aload_n 0, 1) := dk_42 (dk_at dksX6_undo_1 8 rfl rfl)
theorem dX6_undo_33 : decode cX6_undo 33 = .ok (.dup, 1) := dk_89 (dk_at dksX6_undo_1 9 rfl rfl)
theorem dX6_undo_34 : decode cX6_undo 34 = .ok (.getfield 59, 3) := dk_180 0 59 (dk_at dksX6_undo_1 10 rfl rfl)
theorem dX6_undo_37 : decode cX6_undo 37 = .ok (.iconst 1, 1) := dk_4 (dk_at dksX6_undo_1 13 rfl rfl)
theorem dX6_undo_38 : decode cX6_undo 38 = .ok (.isub, 1) := dk_100 (dk_at dksX6_undo_1 14 rfl rfl)
theorem dX6_undo_39 : decode cX6_undo 39 = .ok (.putfield 59, 3) := dk_181 0 59 (dk_at dksX6_undo_1 15 rfl rfl)
theorem dX6_undo_42 : decode cX6_undo 42 = .ok (.aload_n 0, 1) := dk_42 (dk_at dksX6_undo_1 18 rfl rfl)
theorem dX6_undo_43 : decode cX6_undo 43 = .ok (.getfield 59, 3) := dk_180 0 59 (dk_at dksX6_undo_1 19 rfl rfl)
theorem dX6_undo_46 : decode cX6_undo 46 = .ok (.ireturn, 1) := dk_172 (dk_at dksX6_undo_1 22 rfl rfl)
abbrev cX6_undoCount : ByteArray := prog_10_method_123_code
def yX6_undoCount : MethodName := ⟨RX6, "undoCount", "()I"⟩
def dkwX6_undoCount_0 : List UInt8 := [42, 42, 180, 0, 59, 182, 0, 242, 172]
abbrev dktX6_undoCount_0 : List UInt8 := dkwX6_undoCount_0 ++ []
theorem dksX6_undoCount_0 : cX6_undoCount.data.toList.drop 0 = dktX6_undoCount_0 := by decide +kernel
theorem dX6_undoCount_0 : decode cX6_undoCount 0 = .ok (.aload_n 0, 1) := dk_42 (dk_at dksX6_undoCount_0 0 rfl rfl)
theorem dX6_undoCount_1 : decode cX6_undoCount 1 = .ok (.aload_n 0, 1) := dk_42 (dk_at dksX6_undoCount_0 1 rfl rfl)
theorem dX6_undoCount_2 : decode cX6_undoCount 2 = .ok (.getfield 59, 3) := dk_180 0 59 (dk_at dksX6_undoCount_0 2 rfl rfl)
theorem dX6_undoCount_5 : decode cX6_undoCount 5 = .ok (.invokevirtual 242, 3) := dk_182 0 242 (dk_at dksX6_undoCount_0 5 rfl rfl)
theorem dX6_undoCount_8 : decode cX6_undoCount 8 = .ok (.ireturn, 1) := dk_172 (dk_at dksX6_undoCount_0 8 rfl rfl)
abbrev cX6_saveState : ByteArray := prog_10_method_125_code
def yX6_saveState : MethodName := ⟨RX6, "saveState", "(I)I"⟩
def dkwX6_saveState_1 : List UInt8 := [16, 7, 27, 96, 182, 0, 62, 42, 182, 0, 230, 172]
abbrev dktX6_saveState_1 : List UInt8 := dkwX6_saveState_1 ++ []
def dkwX6_saveState_0 : List UInt8 := [42, 27, 184, 1, 78, 4, 4, 182, 0, 210, 154, 0, 5, 3, 172, 42, 180, 0, 13, 27, 4, 84, 42, 3]
abbrev dktX6_saveState_0 : List UInt8 := dkwX6_saveState_0 ++ dktX6_saveState_1
theorem dksX6_saveState_0 : cX6_saveState.data.toList.drop 0 = dktX6_saveState_0 := by decide +kernel
theorem dksX6_saveState_1 : cX6_saveState.data.toList.drop 24 = dktX6_saveState_1 := dk_seg dksX6_saveState_0 24 rfl rfl
theorem dX6_saveState_0 : decode cX6_saveState 0 = .ok (.aload_n 0, 1) := dk_42 (dk_at dksX6_saveState_0 0 rfl rfl)
theorem dX6_saveState_1 : decode cX6_saveState 1 = .ok (.iload_n 1, 1) := dk_27 (dk_at dksX6_saveState_0 1 rfl rfl)
theorem dX6_saveState_2 : decode cX6_saveState 2 = .ok (.invokestatic 334, 3) := dk_184 1 78 (dk_at dksX6_saveState_0 2 rfl rfl)
theorem dX6_saveState_5 : decode cX6_saveState 5 = .ok (.iconst 1, 1) := dk_4 (dk_at dksX6_saveState_0 5 rfl rfl)
theorem dX6_saveState_6 : decode cX6_saveState 6 = .ok (.iconst 1, 1) := dk_4 (dk_at dksX6_saveState_0 6 rfl rfl)
theorem dX6_saveState_7 : decode cX6_saveState 7 = .ok (.invokevirtual 210, 3) := dk_182 0 210 (dk_at dksX6_saveState_0 7 rfl rfl)
theorem dX6_saveState_10 : decode cX6_saveState 10 = .ok (.ifCond .ne 5, 3) := dk_154 0 5 (dk_at dksX6_saveState_0 10 rfl rfl)
theorem dX6_saveState_13 : decode cX6_saveState 13 = .ok (.iconst 0, 1) := dk_3 (dk_at dksX6_saveState_0 13 rfl rfl)
theorem dX6_saveState_14 : decode cX6_saveState 14 = .ok (.ireturn, 1) := dk_172 (dk_at dksX6_saveState_0 14 rfl rfl)
theorem dX6_saveState_15 : decode cX6_saveState 15 = .ok (.aload_n 0, 1) := dk_42 (dk_at dksX6_saveState_0 15 rfl rfl)
theorem dX6_saveState_16 : decode cX6_saveState 16 = .ok (.getfield 13, 3) := dk_180 0 13 (dk_at dksX6_saveState_0 16 rfl rfl)
theorem dX6_saveState_19 : decode cX6_saveState 19 = .ok (.iload_n 1, 1) := dk_27 (dk_at dksX6_saveState_0 19 rfl rfl)
theorem dX6_saveState_20 : decode cX6_saveState 20 = .ok (.iconst 1, 1) := dk_4 (dk_at dksX6_saveState_0 20 rfl rfl)
theorem dX6_saveState_21 : decode cX6_saveState 21 = .ok (.bastore, 1) := dk_84 (dk_at dksX6_saveState_0 21 rfl rfl)
theorem dX6_saveState_22 : decode cX6_saveState 22 = .ok (.aload_n 0, 1) := dk_42 (dk_at dksX6_saveState_0 22 rfl rfl)
theorem dX6_saveState_23 : decode cX6_saveState 23 = .ok (.iconst 0, 1) := dk_3 (dk_at dksX6_saveState_0 23 rfl rfl)
theorem dX6_saveState_24 : decode cX6_saveState 24 = .ok (.bipush 7, 2) := dk_16 7 (dk_at dksX6_saveState_1 0 rfl rfl)
theorem dX6_saveState_26 : decode cX6_saveState 26 = .ok (.iload_n 1, 1) := dk_27 (dk_at dksX6_saveState_1 2 rfl rfl)
theorem dX6_saveState_27 : decode cX6_saveState 27 = .ok (.iadd, 1) := dk_96 (dk_at dksX6_saveState_1 3 rfl rfl)
theorem dX6_saveState_28 : decode cX6_saveState 28 = .ok (.invokevirtual 62, 3) := dk_182 0 62 (dk_at dksX6_saveState_1 4 rfl rfl)
theorem dX6_saveState_31 : decode cX6_saveState 31 = .ok (.aload_n 0, 1) := dk_42 (dk_at dksX6_saveState_1 7 rfl rfl)
theorem dX6_saveState_32 : decode cX6_saveState 32 = .ok (.invokevirtual 230, 3) := dk_182 0 230 (dk_at dksX6_saveState_1 8 rfl rfl)
theorem dX6_saveState_35 : decode cX6_saveState 35 = .ok (.ireturn, 1) := dk_172 (dk_at dksX6_saveState_1 11 rfl rfl)
abbrev cX6_isASlot : ByteArray := prog_10_method_124_code
def yX6_isASlot : MethodName := ⟨RX6, "isASlot", "(I)Z"⟩
def dkwX6_isASlot_0 : List UInt8 := [26, 3, 4, 184, 0, 70, 172]
abbrev dktX6_isASlot_0 : List UInt8 := dkwX6_isASlot_0 ++ []
theorem dksX6_isASlot_0 : cX6_isASlot.data.toList.drop 0 = dktX6_isASlot_0 := by decide +kernel
theorem dX6_isASlot_0 : decode cX6_isASlot 0 = .ok (.iload_n 0, 1) := dk_26 (dk_at dksX6_isASlot_0 0 rfl rfl)
theorem dX6_isASlot_1 : decode cX6_isASlot 1 = .ok (.iconst 0, 1) := dk_3 (dk_at dksX6_isASlot_0 1 rfl rfl)
theorem dX6_isASlot_2 : decode cX6_isASlot 2 = .ok (.iconst 1, 1) := dk_4 (dk_at dksX6_isASlot_0 2 rfl rfl)
theorem dX6_isASlot_3 : decode cX6_isASlot 3 = .ok (.invokestatic 70, 3) := dk_184 0 70 (dk_at dksX6_isASlot_0 3 rfl rfl)
theorem dX6_isASlot_6 : decode cX6_isASlot 6 = .ok (.ireturn, 1) := dk_172 (dk_at dksX6_isASlot_0 6 rfl rfl)
abbrev cX6_loadState : ByteArray := prog_10_method_126_code
def yX6_loadState : MethodName := ⟨RX6, "loadState", "(I)I"⟩
def dkwX6_loadState_2 : List UInt8 := [182, 0, 230, 172]
abbrev dktX6_loadState_2 : List UInt8 := dkwX6_loadState_2 ++ []
def dkwX6_loadState_1 : List UInt8 := [3, 4, 182, 0, 210, 154, 0, 5, 3, 172, 42, 182, 0, 214, 42, 16, 7, 27, 96, 3, 182, 0, 62, 42]
abbrev dktX6_loadState_1 : List UInt8 := dkwX6_loadState_1 ++ dktX6_loadState_2
def dkwX6_loadState_0 : List UInt8 := [27, 184, 1, 78, 61, 42, 28, 28, 153, 0, 16, 42, 180, 0, 13, 27, 51, 153, 0, 7, 4, 167, 0, 4]
abbrev dktX6_loadState_0 : List UInt8 := dkwX6_loadState_0 ++ dktX6_loadState_1
theorem dksX6_loadState_0 : cX6_loadState.data.toList.drop 0 = dktX6_loadState_0 := by decide +kernel
theorem dksX6_loadState_1 : cX6_loadState.data.toList.drop 24 = dktX6_loadState_1 := dk_seg dksX6_loadState_0 24 rfl rfl
theorem dksX6_loadState_2 : cX6_loadState.data.toList.drop 48 = dktX6_loadState_2 := dk_seg dksX6_loadState_1 24 rfl rfl
theorem dX6_loadState_0 : decode cX6_loadState 0 = .ok (.iload_n 1, 1) := dk_27 (dk_at dksX6_loadState_0 0 rfl rfl)
theorem dX6_loadState_1 : decode cX6_loadState 1 = .ok (.invokestatic 334, 3) := dk_184 1 78 (dk_at dksX6_loadState_0 1 rfl rfl)
theorem dX6_loadState_4 : decode cX6_loadState 4 = .ok (.istore_n 2, 1) := dk_61 (dk_at dksX6_loadState_0 4 rfl rfl)
theorem dX6_loadState_5 : decode cX6_loadState 5 = .ok (.aload_n 0, 1) := dk_42 (dk_at dksX6_loadState_0 5 rfl rfl)
theorem dX6_loadState_6 : decode cX6_loadState 6 = .ok (.iload_n 2, 1) := dk_28 (dk_at dksX6_loadState_0 6 rfl rfl)
theorem dX6_loadState_7 : decode cX6_loadState 7 = .ok (.iload_n 2, 1) := dk_28 (dk_at dksX6_loadState_0 7 rfl rfl)
theorem dX6_loadState_8 : decode cX6_loadState 8 = .ok (.ifCond .eq 16, 3) := dk_153 0 16 (dk_at dksX6_loadState_0 8 rfl rfl)
theorem dX6_loadState_11 : decode cX6_loadState 11 = .ok (.aload_n 0, 1) := dk_42 (dk_at dksX6_loadState_0 11 rfl rfl)
theorem dX6_loadState_12 : decode cX6_loadState 12 = .ok (.getfield 13, 3) := dk_180 0 13 (dk_at dksX6_loadState_0 12 rfl rfl)
theorem dX6_loadState_15 : decode cX6_loadState 15 = .ok (.iload_n 1, 1) := dk_27 (dk_at dksX6_loadState_0 15 rfl rfl)
theorem dX6_loadState_16 : decode cX6_loadState 16 = .ok (.baload, 1) := dk_51 (dk_at dksX6_loadState_0 16 rfl rfl)
theorem dX6_loadState_17 : decode cX6_loadState 17 = .ok (.ifCond .eq 7, 3) := dk_153 0 7 (dk_at dksX6_loadState_0 17 rfl rfl)
theorem dX6_loadState_20 : decode cX6_loadState 20 = .ok (.iconst 1, 1) := dk_4 (dk_at dksX6_loadState_0 20 rfl rfl)
theorem dX6_loadState_21 : decode cX6_loadState 21 = .ok (.goto 4, 3) := dk_167 0 4 (dk_at dksX6_loadState_0 21 rfl rfl)
theorem dX6_loadState_24 : decode cX6_loadState 24 = .ok (.iconst 0, 1) := dk_3 (dk_at dksX6_loadState_1 0 rfl rfl)
theorem dX6_loadState_25 : decode cX6_loadState 25 = .ok (.iconst 1, 1) := dk_4 (dk_at dksX6_loadState_1 1 rfl rfl)
theorem dX6_loadState_26 : decode cX6_loadState 26 = .ok (.invokevirtual 210, 3) := dk_182 0 210 (dk_at dksX6_loadState_1 2 rfl rfl)
theorem dX6_loadState_29 : decode cX6_loadState 29 = .ok (.ifCond .ne 5, 3) := dk_154 0 5 (dk_at dksX6_loadState_1 5 rfl rfl)
theorem dX6_loadState_32 : decode cX6_loadState 32 = .ok (.iconst 0, 1) := dk_3 (dk_at dksX6_loadState_1 8 rfl rfl)
theorem dX6_loadState_33 : decode cX6_loadState 33 = .ok (.ireturn, 1) := dk_172 (dk_at dksX6_loadState_1 9 rfl rfl)
theorem dX6_loadState_34 : decode cX6_loadState 34 = .ok (.aload_n 0, 1) := dk_42 (dk_at dksX6_loadState_1 10 rfl rfl)
theorem dX6_loadState_35 : decode cX6_loadState 35 = .ok (.invokevirtual 214, 3) := dk_182 0 214 (dk_at dksX6_loadState_1 11 rfl rfl)
theorem dX6_loadState_38 : decode cX6_loadState 38 = .ok (.aload_n 0, 1) := dk_42 (dk_at dksX6_loadState_1 14 rfl rfl)
theorem dX6_loadState_39 : decode cX6_loadState 39 = .ok (.bipush 7, 2) := dk_16 7 (dk_at dksX6_loadState_1 15 rfl rfl)
theorem dX6_loadState_41 : decode cX6_loadState 41 = .ok (.iload_n 1, 1) := dk_27 (dk_at dksX6_loadState_1 17 rfl rfl)
theorem dX6_loadState_42 : decode cX6_loadState 42 = .ok (.iadd, 1) := dk_96 (dk_at dksX6_loadState_1 18 rfl rfl)
theorem dX6_loadState_43 : decode cX6_loadState 43 = .ok (.iconst 0, 1) := dk_3 (dk_at dksX6_loadState_1 19 rfl rfl)
theorem dX6_loadState_44 : decode cX6_loadState 44 = .ok (.invokevirtual 62, 3) := dk_182 0 62 (dk_at dksX6_loadState_1 20 rfl rfl)
theorem dX6_loadState_47 : decode cX6_loadState 47 = .ok (.aload_n 0, 1) := dk_42 (dk_at dksX6_loadState_1 23 rfl rfl)
theorem dX6_loadState_48 : decode cX6_loadState 48 = .ok (.invokevirtual 230, 3) := dk_182 0 230 (dk_at dksX6_loadState_2 0 rfl rfl)
theorem dX6_loadState_51 : decode cX6_loadState 51 = .ok (.ireturn, 1) := dk_172 (dk_at dksX6_loadState_2 3 rfl rfl)
theorem q137 : (Jvm.Cond.initialized "EdgeLettersModel") ∈ lw_all := lw_g (lw_at lw_m1 19 rfl) rfl
theorem q269 : (Jvm.Cond.selects "EdgeLettersModel" ({ cls := "java/lang/Object", name := "getClass", desc := "()Ljava/lang/Class;" } : Jvm.MethodName) ({ cls := "java/lang/Object", name := "getClass", desc := "()Ljava/lang/Class;" } : Jvm.MethodName)) ∈ lw_all := lw_g (lw_at lw_m1 151 rfl) rfl
theorem q1722 : (Jvm.Cond.instantiable "EdgeLettersModel" (24 : Nat)) ∈ lw_all := lw_g (lw_at lw_m7 164 rfl) rfl
theorem q1724 : (Jvm.Cond.instanceMethod ({ cls := "EdgeLettersModel", name := "<init>", desc := "()V" } : Jvm.MethodName)) ∈ lw_all := lw_g (lw_at lw_m7 166 rfl) rfl
theorem q1725 : (Jvm.Cond.code ({ cls := "EdgeLettersModel", name := "<init>", desc := "()V" } : Jvm.MethodName) prog_10_method_1_code (1 : Nat) (Option.none : Option Jvm.ClassFile.FieldType)) ∈ lw_all := lw_g (lw_at lw_m7 167 rfl) rfl
theorem q1726 : (Jvm.Cond.methodLink "EdgeLettersModel" (1 : Nat) ({ cls := "java/lang/Object", name := "<init>", desc := "()V" } : Jvm.MethodName)) ∈ lw_all := lw_g (lw_at lw_m7 168 rfl) rfl
theorem q1727 : (Jvm.Cond.methodLink "EdgeLettersModel" (51 : Nat) ({ cls := "EdgeLettersModel", name := "begins", desc := "(II)I" } : Jvm.MethodName)) ∈ lw_all := lw_g (lw_at lw_m7 169 rfl) rfl
theorem q1728 : (Jvm.Cond.privateMethod ({ cls := "EdgeLettersModel", name := "begins", desc := "(II)I" } : Jvm.MethodName)) ∈ lw_tbl := lw_at lw_m7 170 rfl
theorem q1729 : (Jvm.Cond.instanceMethod ({ cls := "EdgeLettersModel", name := "begins", desc := "(II)I" } : Jvm.MethodName)) ∈ lw_all := lw_g (lw_at lw_m7 171 rfl) rfl
theorem q1730 : (Jvm.Cond.code ({ cls := "EdgeLettersModel", name := "begins", desc := "(II)I" } : Jvm.MethodName) prog_10_method_27_code (4 : Nat) (Option.some Jvm.ClassFile.FieldType.int)) ∈ lw_all := lw_g (lw_at lw_m7 172 rfl) rfl
theorem q1731 : (Jvm.Cond.methodLink "EdgeLettersModel" (84 : Nat) ({ cls := "EdgeLettersModel", name := "all", desc := "()I" } : Jvm.MethodName)) ∈ lw_all := lw_g (lw_at lw_m7 173 rfl) rfl
theorem q1732 : (Jvm.Cond.privateMethod ({ cls := "EdgeLettersModel", name := "all", desc := "()I" } : Jvm.MethodName)) ∈ lw_tbl := lw_at lw_m7 174 rfl
theorem q1733 : (Jvm.Cond.instanceMethod ({ cls := "EdgeLettersModel", name := "all", desc := "()I" } : Jvm.MethodName)) ∈ lw_all := lw_g (lw_at lw_m7 175 rfl) rfl
theorem q1734 : (Jvm.Cond.code ({ cls := "EdgeLettersModel", name := "all", desc := "()I" } : Jvm.MethodName) prog_10_method_12_code (1 : Nat) (Option.some Jvm.ClassFile.FieldType.int)) ∈ lw_all := lw_g (lw_at lw_m7 176 rfl) rfl
theorem q1735 : (Jvm.Cond.methodLink "EdgeLettersModel" (66 : Nat) ({ cls := "EdgeLettersModel", name := "cells", desc := "()I" } : Jvm.MethodName)) ∈ lw_all := lw_g (lw_at lw_m7 177 rfl) rfl
theorem q1736 : (Jvm.Cond.privateMethod ({ cls := "EdgeLettersModel", name := "cells", desc := "()I" } : Jvm.MethodName)) ∈ lw_tbl := lw_at lw_m7 178 rfl
theorem q1737 : (Jvm.Cond.instanceMethod ({ cls := "EdgeLettersModel", name := "cells", desc := "()I" } : Jvm.MethodName)) ∈ lw_all := lw_g (lw_at lw_m7 179 rfl) rfl
theorem q1738 : (Jvm.Cond.code ({ cls := "EdgeLettersModel", name := "cells", desc := "()I" } : Jvm.MethodName) prog_10_method_9_code (1 : Nat) (Option.some Jvm.ClassFile.FieldType.int)) ∈ lw_all := lw_g (lw_at lw_m7 180 rfl) rfl
theorem q1739 : (Jvm.Cond.fieldLink "EdgeLettersModel" (7 : Nat) "EdgeLettersModel" "s" "[I") ∈ lw_all := lw_g (lw_at lw_m7 181 rfl) rfl
theorem q1740 : (Jvm.Cond.fieldLink "EdgeLettersModel" (59 : Nat) "EdgeLettersModel" "recorded" "I") ∈ lw_all := lw_g (lw_at lw_m7 182 rfl) rfl
theorem q1741 : (Jvm.Cond.fieldLink "EdgeLettersModel" (13 : Nat) "EdgeLettersModel" "isSlot" "[Z") ∈ lw_all := lw_g (lw_at lw_m7 183 rfl) rfl
theorem q1742 : (Jvm.Cond.fieldLink "EdgeLettersModel" (17 : Nat) "EdgeLettersModel" "text" "[C") ∈ lw_all := lw_g (lw_at lw_m7 184 rfl) rfl
theorem q1743 : (Jvm.Cond.fieldLink "EdgeLettersModel" (287 : Nat) "EdgeLettersModel" "typed" "I") ∈ lw_all := lw_g (lw_at lw_m7 185 rfl) rfl
theorem q1744 : (Jvm.Cond.fieldLink "EdgeLettersModel" (55 : Nat) "EdgeLettersModel" "thrown" "I") ∈ lw_all := lw_g (lw_at lw_m7 186 rfl) rfl
theorem q1745 : (Jvm.Cond.fieldLink "EdgeLettersModel" (290 : Nat) "EdgeLettersModel" "spot" "I") ∈ lw_all := lw_g (lw_at lw_m7 187 rfl) rfl
theorem q1746 : (Jvm.Cond.fieldLink "EdgeLettersModel" (300 : Nat) "EdgeLettersModel" "command" "I") ∈ lw_all := lw_g (lw_at lw_m7 188 rfl) rfl
theorem q1747 : (Jvm.Cond.fieldLink "EdgeLettersModel" (297 : Nat) "EdgeLettersModel" "one" "I") ∈ lw_all := lw_g (lw_at lw_m7 189 rfl) rfl
theorem q1748 : (Jvm.Cond.fieldLink "EdgeLettersModel" (303 : Nat) "EdgeLettersModel" "two" "I") ∈ lw_all := lw_g (lw_at lw_m7 190 rfl) rfl
theorem q1749 : (Jvm.Cond.fieldLink "EdgeLettersModel" (87 : Nat) "EdgeLettersModel" "tableSide" "I") ∈ lw_all := lw_g (lw_at lw_m7 191 rfl) rfl
theorem q1750 : (Jvm.Cond.fieldLink "EdgeLettersModel" (90 : Nat) "EdgeLettersModel" "tableLetters" "I") ∈ lw_all := lw_g (lw_at lw_m7 192 rfl) rfl
theorem q1751 : (Jvm.Cond.fieldLink "EdgeLettersModel" (93 : Nat) "EdgeLettersModel" "tableSize" "I") ∈ lw_all := lw_g (lw_at lw_m7 193 rfl) rfl
theorem q1752 : (Jvm.Cond.fieldLink "EdgeLettersModel" (21 : Nat) "EdgeLettersModel" "table" "[I") ∈ lw_all := lw_g (lw_at lw_m7 194 rfl) rfl
theorem q1753 : (Jvm.Cond.fieldLink "EdgeLettersModel" (24 : Nat) "EdgeLettersModel" "ends" "[I") ∈ lw_all := lw_g (lw_at lw_m7 195 rfl) rfl
theorem q1754 : (Jvm.Cond.fieldLink "EdgeLettersModel" (27 : Nat) "EdgeLettersModel" "w" "[I") ∈ lw_all := lw_g (lw_at lw_m7 196 rfl) rfl
theorem q1755 : (Jvm.Cond.fieldLink "EdgeLettersModel" (30 : Nat) "EdgeLettersModel" "seen" "[I") ∈ lw_all := lw_g (lw_at lw_m7 197 rfl) rfl
theorem q1756 : (Jvm.Cond.fieldLink "EdgeLettersModel" (33 : Nat) "EdgeLettersModel" "seenIn" "[I") ∈ lw_all := lw_g (lw_at lw_m7 198 rfl) rfl
theorem q1757 : (Jvm.Cond.fieldLink "EdgeLettersModel" (36 : Nat) "EdgeLettersModel" "guessed" "[I") ∈ lw_all := lw_g (lw_at lw_m7 199 rfl) rfl
theorem q1758 : (Jvm.Cond.fieldLink "EdgeLettersModel" (39 : Nat) "EdgeLettersModel" "tried" "[I") ∈ lw_all := lw_g (lw_at lw_m7 200 rfl) rfl
theorem q1759 : (Jvm.Cond.fieldLink "EdgeLettersModel" (42 : Nat) "EdgeLettersModel" "found" "[I") ∈ lw_all := lw_g (lw_at lw_m7 201 rfl) rfl
theorem q1760 : (Jvm.Cond.fieldLink "EdgeLettersModel" (179 : Nat) "EdgeLettersModel" "same" "J") ∈ lw_all := lw_g (lw_at lw_m7 202 rfl) rfl
theorem q1761 : (Jvm.Cond.fieldLink "EdgeLettersModel" (45 : Nat) "EdgeLettersModel" "ways" "[I") ∈ lw_all := lw_g (lw_at lw_m7 203 rfl) rfl
theorem q1762 : (Jvm.Cond.fieldLink "EdgeLettersModel" (48 : Nat) "EdgeLettersModel" "more" "[I") ∈ lw_all := lw_g (lw_at lw_m7 204 rfl) rfl
theorem q1763 : (Jvm.Cond.laysFinal "EdgeLettersModel" "EdgeLettersModel" "s" "[I") ∈ lw_all := lw_g (lw_at lw_m7 205 rfl) rfl
theorem q1764 : (Jvm.Cond.soleField "EdgeLettersModel" "s") ∈ lw_all := lw_g (lw_at lw_m7 206 rfl) rfl
theorem q1765 : (Jvm.Cond.lays "EdgeLettersModel" "EdgeLettersModel" "recorded" "I") ∈ lw_all := lw_g (lw_at lw_m7 207 rfl) rfl
theorem q1766 : (Jvm.Cond.soleField "EdgeLettersModel" "recorded") ∈ lw_all := lw_g (lw_at lw_m7 208 rfl) rfl
theorem q1767 : (Jvm.Cond.laysFinal "EdgeLettersModel" "EdgeLettersModel" "isSlot" "[Z") ∈ lw_all := lw_g (lw_at lw_m7 209 rfl) rfl
theorem q1768 : (Jvm.Cond.soleField "EdgeLettersModel" "isSlot") ∈ lw_all := lw_g (lw_at lw_m7 210 rfl) rfl
theorem q1769 : (Jvm.Cond.laysFinal "EdgeLettersModel" "EdgeLettersModel" "text" "[C") ∈ lw_all := lw_g (lw_at lw_m7 211 rfl) rfl
theorem q1770 : (Jvm.Cond.soleField "EdgeLettersModel" "text") ∈ lw_all := lw_g (lw_at lw_m7 212 rfl) rfl
theorem q1771 : (Jvm.Cond.lays "EdgeLettersModel" "EdgeLettersModel" "typed" "I") ∈ lw_all := lw_g (lw_at lw_m7 213 rfl) rfl
theorem q1772 : (Jvm.Cond.soleField "EdgeLettersModel" "typed") ∈ lw_all := lw_g (lw_at lw_m7 214 rfl) rfl
theorem q1773 : (Jvm.Cond.lays "EdgeLettersModel" "EdgeLettersModel" "thrown" "I") ∈ lw_all := lw_g (lw_at lw_m7 215 rfl) rfl
theorem q1774 : (Jvm.Cond.soleField "EdgeLettersModel" "thrown") ∈ lw_all := lw_g (lw_at lw_m7 216 rfl) rfl
theorem q1775 : (Jvm.Cond.lays "EdgeLettersModel" "EdgeLettersModel" "spot" "I") ∈ lw_all := lw_g (lw_at lw_m7 217 rfl) rfl
theorem q1776 : (Jvm.Cond.soleField "EdgeLettersModel" "spot") ∈ lw_all := lw_g (lw_at lw_m7 218 rfl) rfl
theorem q1777 : (Jvm.Cond.lays "EdgeLettersModel" "EdgeLettersModel" "command" "I") ∈ lw_all := lw_g (lw_at lw_m7 219 rfl) rfl
theorem q1778 : (Jvm.Cond.soleField "EdgeLettersModel" "command") ∈ lw_all := lw_g (lw_at lw_m7 220 rfl) rfl
theorem q1779 : (Jvm.Cond.lays "EdgeLettersModel" "EdgeLettersModel" "one" "I") ∈ lw_all := lw_g (lw_at lw_m7 221 rfl) rfl
theorem q1780 : (Jvm.Cond.soleField "EdgeLettersModel" "one") ∈ lw_all := lw_g (lw_at lw_m7 222 rfl) rfl
theorem q1781 : (Jvm.Cond.lays "EdgeLettersModel" "EdgeLettersModel" "two" "I") ∈ lw_all := lw_g (lw_at lw_m7 223 rfl) rfl
theorem q1782 : (Jvm.Cond.soleField "EdgeLettersModel" "two") ∈ lw_all := lw_g (lw_at lw_m7 224 rfl) rfl
theorem q1783 : (Jvm.Cond.lays "EdgeLettersModel" "EdgeLettersModel" "tableSide" "I") ∈ lw_all := lw_g (lw_at lw_m7 225 rfl) rfl
theorem q1784 : (Jvm.Cond.soleField "EdgeLettersModel" "tableSide") ∈ lw_all := lw_g (lw_at lw_m7 226 rfl) rfl
theorem q1785 : (Jvm.Cond.lays "EdgeLettersModel" "EdgeLettersModel" "tableLetters" "I") ∈ lw_all := lw_g (lw_at lw_m7 227 rfl) rfl
theorem q1786 : (Jvm.Cond.soleField "EdgeLettersModel" "tableLetters") ∈ lw_all := lw_g (lw_at lw_m7 228 rfl) rfl
theorem q1787 : (Jvm.Cond.lays "EdgeLettersModel" "EdgeLettersModel" "tableSize" "I") ∈ lw_all := lw_g (lw_at lw_m7 229 rfl) rfl
theorem q1788 : (Jvm.Cond.soleField "EdgeLettersModel" "tableSize") ∈ lw_all := lw_g (lw_at lw_m7 230 rfl) rfl
theorem q1789 : (Jvm.Cond.laysFinal "EdgeLettersModel" "EdgeLettersModel" "table" "[I") ∈ lw_all := lw_g (lw_at lw_m7 231 rfl) rfl
theorem q1790 : (Jvm.Cond.soleField "EdgeLettersModel" "table") ∈ lw_all := lw_g (lw_at lw_m7 232 rfl) rfl
theorem q1791 : (Jvm.Cond.laysFinal "EdgeLettersModel" "EdgeLettersModel" "ends" "[I") ∈ lw_all := lw_g (lw_at lw_m7 233 rfl) rfl
theorem q1792 : (Jvm.Cond.soleField "EdgeLettersModel" "ends") ∈ lw_all := lw_g (lw_at lw_m7 234 rfl) rfl
theorem q1793 : (Jvm.Cond.laysFinal "EdgeLettersModel" "EdgeLettersModel" "w" "[I") ∈ lw_all := lw_g (lw_at lw_m7 235 rfl) rfl
theorem q1794 : (Jvm.Cond.soleField "EdgeLettersModel" "w") ∈ lw_all := lw_g (lw_at lw_m7 236 rfl) rfl
theorem q1795 : (Jvm.Cond.laysFinal "EdgeLettersModel" "EdgeLettersModel" "seen" "[I") ∈ lw_all := lw_g (lw_at lw_m7 237 rfl) rfl
theorem q1796 : (Jvm.Cond.soleField "EdgeLettersModel" "seen") ∈ lw_all := lw_g (lw_at lw_m7 238 rfl) rfl
theorem q1797 : (Jvm.Cond.laysFinal "EdgeLettersModel" "EdgeLettersModel" "seenIn" "[I") ∈ lw_all := lw_g (lw_at lw_m7 239 rfl) rfl
theorem q1798 : (Jvm.Cond.soleField "EdgeLettersModel" "seenIn") ∈ lw_all := lw_g (lw_at lw_m8 0 rfl) rfl
theorem q1799 : (Jvm.Cond.laysFinal "EdgeLettersModel" "EdgeLettersModel" "guessed" "[I") ∈ lw_all := lw_g (lw_at lw_m8 1 rfl) rfl
theorem q1800 : (Jvm.Cond.soleField "EdgeLettersModel" "guessed") ∈ lw_all := lw_g (lw_at lw_m8 2 rfl) rfl
theorem q1801 : (Jvm.Cond.laysFinal "EdgeLettersModel" "EdgeLettersModel" "tried" "[I") ∈ lw_all := lw_g (lw_at lw_m8 3 rfl) rfl
theorem q1802 : (Jvm.Cond.soleField "EdgeLettersModel" "tried") ∈ lw_all := lw_g (lw_at lw_m8 4 rfl) rfl
theorem q1803 : (Jvm.Cond.laysFinal "EdgeLettersModel" "EdgeLettersModel" "found" "[I") ∈ lw_all := lw_g (lw_at lw_m8 5 rfl) rfl
theorem q1804 : (Jvm.Cond.soleField "EdgeLettersModel" "found") ∈ lw_all := lw_g (lw_at lw_m8 6 rfl) rfl
theorem q1805 : (Jvm.Cond.lays "EdgeLettersModel" "EdgeLettersModel" "same" "J") ∈ lw_all := lw_g (lw_at lw_m8 7 rfl) rfl
theorem q1806 : (Jvm.Cond.soleField "EdgeLettersModel" "same") ∈ lw_all := lw_g (lw_at lw_m8 8 rfl) rfl
theorem q1807 : (Jvm.Cond.laysFinal "EdgeLettersModel" "EdgeLettersModel" "ways" "[I") ∈ lw_all := lw_g (lw_at lw_m8 9 rfl) rfl
theorem q1808 : (Jvm.Cond.soleField "EdgeLettersModel" "ways") ∈ lw_all := lw_g (lw_at lw_m8 10 rfl) rfl
theorem q1809 : (Jvm.Cond.laysFinal "EdgeLettersModel" "EdgeLettersModel" "more" "[I") ∈ lw_all := lw_g (lw_at lw_m8 11 rfl) rfl
theorem q1810 : (Jvm.Cond.soleField "EdgeLettersModel" "more") ∈ lw_all := lw_g (lw_at lw_m8 12 rfl) rfl
theorem q1811 : (Jvm.Cond.superclass "EdgeLettersModel" "java/lang/Object") ∈ lw_all := lw_g (lw_at lw_m8 13 rfl) rfl
theorem q1815 : (Jvm.Cond.instanceMethod ({ cls := "EdgeLettersModel", name := "thrown", desc := "()I" } : Jvm.MethodName)) ∈ lw_all := lw_g (lw_at lw_m8 17 rfl) rfl
theorem q1816 : (Jvm.Cond.selects "EdgeLettersModel" ({ cls := "EdgeLettersModel", name := "thrown", desc := "()I" } : Jvm.MethodName) ({ cls := "EdgeLettersModel", name := "thrown", desc := "()I" } : Jvm.MethodName)) ∈ lw_all := lw_g (lw_at lw_m8 18 rfl) rfl
theorem q1817 : (Jvm.Cond.code ({ cls := "EdgeLettersModel", name := "thrown", desc := "()I" } : Jvm.MethodName) prog_10_method_2_code (1 : Nat) (Option.some Jvm.ClassFile.FieldType.int)) ∈ lw_all := lw_g (lw_at lw_m8 19 rfl) rfl
theorem q1819 : (Jvm.Cond.instanceMethod ({ cls := "EdgeLettersModel", name := "start", desc := "(II)I" } : Jvm.MethodName)) ∈ lw_all := lw_g (lw_at lw_m8 21 rfl) rfl
theorem q1820 : (Jvm.Cond.selects "EdgeLettersModel" ({ cls := "EdgeLettersModel", name := "start", desc := "(II)I" } : Jvm.MethodName) ({ cls := "EdgeLettersModel", name := "start", desc := "(II)I" } : Jvm.MethodName)) ∈ lw_all := lw_g (lw_at lw_m8 22 rfl) rfl
theorem q1821 : (Jvm.Cond.code ({ cls := "EdgeLettersModel", name := "start", desc := "(II)I" } : Jvm.MethodName) prog_10_method_58_code (3 : Nat) (Option.some Jvm.ClassFile.FieldType.int)) ∈ lw_all := lw_g (lw_at lw_m8 23 rfl) rfl
theorem q1822 : (Jvm.Cond.methodLink "EdgeLettersModel" (70 : Nat) ({ cls := "EdgeLettersModel", name := "in", desc := "(III)Z" } : Jvm.MethodName)) ∈ lw_all := lw_g (lw_at lw_m8 24 rfl) rfl
theorem q1823 : (Jvm.Cond.static ({ cls := "EdgeLettersModel", name := "in", desc := "(III)Z" } : Jvm.MethodName)) ∈ lw_all := lw_g (lw_at lw_m8 25 rfl) rfl
theorem q1824 : (Jvm.Cond.code ({ cls := "EdgeLettersModel", name := "in", desc := "(III)Z" } : Jvm.MethodName) prog_10_method_3_code (3 : Nat) (Option.some Jvm.ClassFile.FieldType.boolean)) ∈ lw_all := lw_g (lw_at lw_m8 26 rfl) rfl
theorem q1825 : (Jvm.Cond.methodLink "EdgeLettersModel" (210 : Nat) ({ cls := "EdgeLettersModel", name := "goes", desc := "(ZZZ)Z" } : Jvm.MethodName)) ∈ lw_all := lw_g (lw_at lw_m8 27 rfl) rfl
theorem q1826 : (Jvm.Cond.privateMethod ({ cls := "EdgeLettersModel", name := "goes", desc := "(ZZZ)Z" } : Jvm.MethodName)) ∈ lw_tbl := lw_at lw_m8 28 rfl
theorem q1827 : (Jvm.Cond.instanceMethod ({ cls := "EdgeLettersModel", name := "goes", desc := "(ZZZ)Z" } : Jvm.MethodName)) ∈ lw_all := lw_g (lw_at lw_m8 29 rfl) rfl
theorem q1828 : (Jvm.Cond.code ({ cls := "EdgeLettersModel", name := "goes", desc := "(ZZZ)Z" } : Jvm.MethodName) prog_10_method_5_code (4 : Nat) (Option.some Jvm.ClassFile.FieldType.boolean)) ∈ lw_all := lw_g (lw_at lw_m8 30 rfl) rfl
theorem q1829 : (Jvm.Cond.methodLink "EdgeLettersModel" (214 : Nat) ({ cls := "EdgeLettersModel", name := "records", desc := "()V" } : Jvm.MethodName)) ∈ lw_all := lw_g (lw_at lw_m8 31 rfl) rfl
theorem q1830 : (Jvm.Cond.privateMethod ({ cls := "EdgeLettersModel", name := "records", desc := "()V" } : Jvm.MethodName)) ∈ lw_tbl := lw_at lw_m8 32 rfl
theorem q1831 : (Jvm.Cond.instanceMethod ({ cls := "EdgeLettersModel", name := "records", desc := "()V" } : Jvm.MethodName)) ∈ lw_all := lw_g (lw_at lw_m8 33 rfl) rfl
theorem q1832 : (Jvm.Cond.code ({ cls := "EdgeLettersModel", name := "records", desc := "()V" } : Jvm.MethodName) prog_10_method_8_code (2 : Nat) (Option.none : Option Jvm.ClassFile.FieldType)) ∈ lw_all := lw_g (lw_at lw_m8 34 rfl) rfl
theorem q1833 : (Jvm.Cond.methodLink "EdgeLettersModel" (62 : Nat) ({ cls := "EdgeLettersModel", name := "copies", desc := "(II)V" } : Jvm.MethodName)) ∈ lw_all := lw_g (lw_at lw_m8 35 rfl) rfl
theorem q1834 : (Jvm.Cond.privateMethod ({ cls := "EdgeLettersModel", name := "copies", desc := "(II)V" } : Jvm.MethodName)) ∈ lw_tbl := lw_at lw_m8 36 rfl
theorem q1835 : (Jvm.Cond.instanceMethod ({ cls := "EdgeLettersModel", name := "copies", desc := "(II)V" } : Jvm.MethodName)) ∈ lw_all := lw_g (lw_at lw_m8 37 rfl) rfl
theorem q1836 : (Jvm.Cond.code ({ cls := "EdgeLettersModel", name := "copies", desc := "(II)V" } : Jvm.MethodName) prog_10_method_7_code (4 : Nat) (Option.none : Option Jvm.ClassFile.FieldType)) ∈ lw_all := lw_g (lw_at lw_m8 38 rfl) rfl
theorem q1838 : (Jvm.Cond.instanceMethod ({ cls := "EdgeLettersModel", name := "turnDiagonals", desc := "()Z" } : Jvm.MethodName)) ∈ lw_all := lw_g (lw_at lw_m8 40 rfl) rfl
theorem q1839 : (Jvm.Cond.selects "EdgeLettersModel" ({ cls := "EdgeLettersModel", name := "turnDiagonals", desc := "()Z" } : Jvm.MethodName) ({ cls := "EdgeLettersModel", name := "turnDiagonals", desc := "()Z" } : Jvm.MethodName)) ∈ lw_all := lw_g (lw_at lw_m8 41 rfl) rfl
theorem q1840 : (Jvm.Cond.code ({ cls := "EdgeLettersModel", name := "turnDiagonals", desc := "()Z" } : Jvm.MethodName) prog_10_method_59_code (1 : Nat) (Option.some Jvm.ClassFile.FieldType.boolean)) ∈ lw_all := lw_g (lw_at lw_m8 42 rfl) rfl
theorem q1842 : (Jvm.Cond.instanceMethod ({ cls := "EdgeLettersModel", name := "setTelling", desc := "(IIZ)I" } : Jvm.MethodName)) ∈ lw_all := lw_g (lw_at lw_m8 44 rfl) rfl
theorem q1843 : (Jvm.Cond.selects "EdgeLettersModel" ({ cls := "EdgeLettersModel", name := "setTelling", desc := "(IIZ)I" } : Jvm.MethodName) ({ cls := "EdgeLettersModel", name := "setTelling", desc := "(IIZ)I" } : Jvm.MethodName)) ∈ lw_all := lw_g (lw_at lw_m8 45 rfl) rfl
theorem q1844 : (Jvm.Cond.code ({ cls := "EdgeLettersModel", name := "setTelling", desc := "(IIZ)I" } : Jvm.MethodName) prog_10_method_62_code (4 : Nat) (Option.some Jvm.ClassFile.FieldType.int)) ∈ lw_all := lw_g (lw_at lw_m8 46 rfl) rfl
theorem q1845 : (Jvm.Cond.methodLink "EdgeLettersModel" (220 : Nat) ({ cls := "EdgeLettersModel", name := "isEdge", desc := "(I)Z" } : Jvm.MethodName)) ∈ lw_all := lw_g (lw_at lw_m8 47 rfl) rfl
theorem q1846 : (Jvm.Cond.privateMethod ({ cls := "EdgeLettersModel", name := "isEdge", desc := "(I)Z" } : Jvm.MethodName)) ∈ lw_tbl := lw_at lw_m8 48 rfl
theorem q1847 : (Jvm.Cond.instanceMethod ({ cls := "EdgeLettersModel", name := "isEdge", desc := "(I)Z" } : Jvm.MethodName)) ∈ lw_all := lw_g (lw_at lw_m8 49 rfl) rfl
theorem q1848 : (Jvm.Cond.code ({ cls := "EdgeLettersModel", name := "isEdge", desc := "(I)Z" } : Jvm.MethodName) prog_10_method_14_code (2 : Nat) (Option.some Jvm.ClassFile.FieldType.boolean)) ∈ lw_all := lw_g (lw_at lw_m8 50 rfl) rfl
theorem q1849 : (Jvm.Cond.methodLink "EdgeLettersModel" (74 : Nat) ({ cls := "EdgeLettersModel", name := "edges", desc := "()I" } : Jvm.MethodName)) ∈ lw_all := lw_g (lw_at lw_m8 51 rfl) rfl
theorem q1850 : (Jvm.Cond.privateMethod ({ cls := "EdgeLettersModel", name := "edges", desc := "()I" } : Jvm.MethodName)) ∈ lw_tbl := lw_at lw_m8 52 rfl
theorem q1851 : (Jvm.Cond.instanceMethod ({ cls := "EdgeLettersModel", name := "edges", desc := "()I" } : Jvm.MethodName)) ∈ lw_all := lw_g (lw_at lw_m8 53 rfl) rfl
theorem q1852 : (Jvm.Cond.code ({ cls := "EdgeLettersModel", name := "edges", desc := "()I" } : Jvm.MethodName) prog_10_method_10_code (1 : Nat) (Option.some Jvm.ClassFile.FieldType.int)) ∈ lw_all := lw_g (lw_at lw_m8 54 rfl) rfl
theorem q1853 : (Jvm.Cond.methodLink "EdgeLettersModel" (223 : Nat) ({ cls := "EdgeLettersModel", name := "isLetter", desc := "(I)Z" } : Jvm.MethodName)) ∈ lw_all := lw_g (lw_at lw_m8 55 rfl) rfl
theorem q1854 : (Jvm.Cond.privateMethod ({ cls := "EdgeLettersModel", name := "isLetter", desc := "(I)Z" } : Jvm.MethodName)) ∈ lw_tbl := lw_at lw_m8 56 rfl
theorem q1855 : (Jvm.Cond.instanceMethod ({ cls := "EdgeLettersModel", name := "isLetter", desc := "(I)Z" } : Jvm.MethodName)) ∈ lw_all := lw_g (lw_at lw_m8 57 rfl) rfl
theorem q1856 : (Jvm.Cond.code ({ cls := "EdgeLettersModel", name := "isLetter", desc := "(I)Z" } : Jvm.MethodName) prog_10_method_15_code (2 : Nat) (Option.some Jvm.ClassFile.FieldType.boolean)) ∈ lw_all := lw_g (lw_at lw_m8 58 rfl) rfl
theorem q1857 : (Jvm.Cond.methodLink "EdgeLettersModel" (226 : Nat) ({ cls := "EdgeLettersModel", name := "tells", desc := "(IIZ)I" } : Jvm.MethodName)) ∈ lw_all := lw_g (lw_at lw_m8 59 rfl) rfl
theorem q1858 : (Jvm.Cond.privateMethod ({ cls := "EdgeLettersModel", name := "tells", desc := "(IIZ)I" } : Jvm.MethodName)) ∈ lw_tbl := lw_at lw_m8 60 rfl
theorem q1859 : (Jvm.Cond.instanceMethod ({ cls := "EdgeLettersModel", name := "tells", desc := "(IIZ)I" } : Jvm.MethodName)) ∈ lw_all := lw_g (lw_at lw_m8 61 rfl) rfl
theorem q1860 : (Jvm.Cond.code ({ cls := "EdgeLettersModel", name := "tells", desc := "(IIZ)I" } : Jvm.MethodName) prog_10_method_61_code (5 : Nat) (Option.some Jvm.ClassFile.FieldType.int)) ∈ lw_all := lw_g (lw_at lw_m8 62 rfl) rfl
theorem q1861 : (Jvm.Cond.methodLink "EdgeLettersModel" (217 : Nat) ({ cls := "EdgeLettersModel", name := "letterOf", desc := "(I)I" } : Jvm.MethodName)) ∈ lw_all := lw_g (lw_at lw_m8 63 rfl) rfl
theorem q1862 : (Jvm.Cond.privateMethod ({ cls := "EdgeLettersModel", name := "letterOf", desc := "(I)I" } : Jvm.MethodName)) ∈ lw_tbl := lw_at lw_m8 64 rfl
theorem q1863 : (Jvm.Cond.instanceMethod ({ cls := "EdgeLettersModel", name := "letterOf", desc := "(I)I" } : Jvm.MethodName)) ∈ lw_all := lw_g (lw_at lw_m8 65 rfl) rfl
theorem q1864 : (Jvm.Cond.code ({ cls := "EdgeLettersModel", name := "letterOf", desc := "(I)I" } : Jvm.MethodName) prog_10_method_60_code (2 : Nat) (Option.some Jvm.ClassFile.FieldType.int)) ∈ lw_all := lw_g (lw_at lw_m8 66 rfl) rfl
theorem q1865 : (Jvm.Cond.methodLink "EdgeLettersModel" (80 : Nat) ({ cls := "EdgeLettersModel", name := "flag", desc := "(Z)I" } : Jvm.MethodName)) ∈ lw_all := lw_g (lw_at lw_m8 67 rfl) rfl
theorem q1866 : (Jvm.Cond.static ({ cls := "EdgeLettersModel", name := "flag", desc := "(Z)I" } : Jvm.MethodName)) ∈ lw_all := lw_g (lw_at lw_m8 68 rfl) rfl
theorem q1867 : (Jvm.Cond.code ({ cls := "EdgeLettersModel", name := "flag", desc := "(Z)I" } : Jvm.MethodName) prog_10_method_4_code (1 : Nat) (Option.some Jvm.ClassFile.FieldType.int)) ∈ lw_all := lw_g (lw_at lw_m8 69 rfl) rfl
theorem q1869 : (Jvm.Cond.instanceMethod ({ cls := "EdgeLettersModel", name := "clearTelling", desc := "(I)I" } : Jvm.MethodName)) ∈ lw_all := lw_g (lw_at lw_m8 71 rfl) rfl
theorem q1870 : (Jvm.Cond.selects "EdgeLettersModel" ({ cls := "EdgeLettersModel", name := "clearTelling", desc := "(I)I" } : Jvm.MethodName) ({ cls := "EdgeLettersModel", name := "clearTelling", desc := "(I)I" } : Jvm.MethodName)) ∈ lw_all := lw_g (lw_at lw_m8 72 rfl) rfl
theorem q1871 : (Jvm.Cond.code ({ cls := "EdgeLettersModel", name := "clearTelling", desc := "(I)I" } : Jvm.MethodName) prog_10_method_63_code (3 : Nat) (Option.some Jvm.ClassFile.FieldType.int)) ∈ lw_all := lw_g (lw_at lw_m8 73 rfl) rfl
theorem q1872 : (Jvm.Cond.methodLink "EdgeLettersModel" (230 : Nat) ({ cls := "EdgeLettersModel", name := "tellings", desc := "()I" } : Jvm.MethodName)) ∈ lw_all := lw_g (lw_at lw_m8 74 rfl) rfl
theorem q1873 : (Jvm.Cond.privateMethod ({ cls := "EdgeLettersModel", name := "tellings", desc := "()I" } : Jvm.MethodName)) ∈ lw_tbl := lw_at lw_m8 75 rfl
theorem q1874 : (Jvm.Cond.instanceMethod ({ cls := "EdgeLettersModel", name := "tellings", desc := "()I" } : Jvm.MethodName)) ∈ lw_all := lw_g (lw_at lw_m8 76 rfl) rfl
theorem q1875 : (Jvm.Cond.code ({ cls := "EdgeLettersModel", name := "tellings", desc := "()I" } : Jvm.MethodName) prog_10_method_26_code (3 : Nat) (Option.some Jvm.ClassFile.FieldType.int)) ∈ lw_all := lw_g (lw_at lw_m8 77 rfl) rfl
theorem q1877 : (Jvm.Cond.instanceMethod ({ cls := "EdgeLettersModel", name := "tellFirsts", desc := "()I" } : Jvm.MethodName)) ∈ lw_all := lw_g (lw_at lw_m8 79 rfl) rfl
theorem q1878 : (Jvm.Cond.selects "EdgeLettersModel" ({ cls := "EdgeLettersModel", name := "tellFirsts", desc := "()I" } : Jvm.MethodName) ({ cls := "EdgeLettersModel", name := "tellFirsts", desc := "()I" } : Jvm.MethodName)) ∈ lw_all := lw_g (lw_at lw_m8 80 rfl) rfl
theorem q1879 : (Jvm.Cond.code ({ cls := "EdgeLettersModel", name := "tellFirsts", desc := "()I" } : Jvm.MethodName) prog_10_method_65_code (6 : Nat) (Option.some Jvm.ClassFile.FieldType.int)) ∈ lw_all := lw_g (lw_at lw_m8 81 rfl) rfl
theorem q1880 : (Jvm.Cond.methodLink "EdgeLettersModel" (233 : Nat) ({ cls := "EdgeLettersModel", name := "arrangementOf", desc := "(I)I" } : Jvm.MethodName)) ∈ lw_all := lw_g (lw_at lw_m8 82 rfl) rfl
theorem q1881 : (Jvm.Cond.privateMethod ({ cls := "EdgeLettersModel", name := "arrangementOf", desc := "(I)I" } : Jvm.MethodName)) ∈ lw_tbl := lw_at lw_m8 83 rfl
theorem q1882 : (Jvm.Cond.instanceMethod ({ cls := "EdgeLettersModel", name := "arrangementOf", desc := "(I)I" } : Jvm.MethodName)) ∈ lw_all := lw_g (lw_at lw_m8 84 rfl) rfl
theorem q1883 : (Jvm.Cond.code ({ cls := "EdgeLettersModel", name := "arrangementOf", desc := "(I)I" } : Jvm.MethodName) prog_10_method_64_code (6 : Nat) (Option.some Jvm.ClassFile.FieldType.int)) ∈ lw_all := lw_g (lw_at lw_m8 85 rfl) rfl
theorem q1884 : (Jvm.Cond.methodLink "EdgeLettersModel" (113 : Nat) ({ cls := "EdgeLettersModel", name := "lists", desc := "()V" } : Jvm.MethodName)) ∈ lw_all := lw_g (lw_at lw_m8 86 rfl) rfl
theorem q1885 : (Jvm.Cond.privateMethod ({ cls := "EdgeLettersModel", name := "lists", desc := "()V" } : Jvm.MethodName)) ∈ lw_tbl := lw_at lw_m8 87 rfl
theorem q1886 : (Jvm.Cond.instanceMethod ({ cls := "EdgeLettersModel", name := "lists", desc := "()V" } : Jvm.MethodName)) ∈ lw_all := lw_g (lw_at lw_m8 88 rfl) rfl
theorem q1887 : (Jvm.Cond.code ({ cls := "EdgeLettersModel", name := "lists", desc := "()V" } : Jvm.MethodName) prog_10_method_28_code (5 : Nat) (Option.none : Option Jvm.ClassFile.FieldType)) ∈ lw_all := lw_g (lw_at lw_m8 89 rfl) rfl
theorem q1888 : (Jvm.Cond.methodLink "EdgeLettersModel" (96 : Nat) ({ cls := "EdgeLettersModel", name := "lays", desc := "(II)V" } : Jvm.MethodName)) ∈ lw_all := lw_g (lw_at lw_m8 90 rfl) rfl
theorem q1889 : (Jvm.Cond.privateMethod ({ cls := "EdgeLettersModel", name := "lays", desc := "(II)V" } : Jvm.MethodName)) ∈ lw_tbl := lw_at lw_m8 91 rfl
theorem q1890 : (Jvm.Cond.instanceMethod ({ cls := "EdgeLettersModel", name := "lays", desc := "(II)V" } : Jvm.MethodName)) ∈ lw_all := lw_g (lw_at lw_m8 92 rfl) rfl
theorem q1891 : (Jvm.Cond.code ({ cls := "EdgeLettersModel", name := "lays", desc := "(II)V" } : Jvm.MethodName) prog_10_method_29_code (10 : Nat) (Option.none : Option Jvm.ClassFile.FieldType)) ∈ lw_all := lw_g (lw_at lw_m8 93 rfl) rfl
theorem q1892 : (Jvm.Cond.methodLink "EdgeLettersModel" (99 : Nat) ({ cls := "EdgeLettersModel", name := "cellAt", desc := "(II)I" } : Jvm.MethodName)) ∈ lw_all := lw_g (lw_at lw_m8 94 rfl) rfl
theorem q1893 : (Jvm.Cond.privateMethod ({ cls := "EdgeLettersModel", name := "cellAt", desc := "(II)I" } : Jvm.MethodName)) ∈ lw_tbl := lw_at lw_m8 95 rfl
theorem q1894 : (Jvm.Cond.instanceMethod ({ cls := "EdgeLettersModel", name := "cellAt", desc := "(II)I" } : Jvm.MethodName)) ∈ lw_all := lw_g (lw_at lw_m8 96 rfl) rfl
theorem q1895 : (Jvm.Cond.code ({ cls := "EdgeLettersModel", name := "cellAt", desc := "(II)I" } : Jvm.MethodName) prog_10_method_21_code (4 : Nat) (Option.some Jvm.ClassFile.FieldType.int)) ∈ lw_all := lw_g (lw_at lw_m8 97 rfl) rfl
theorem q1897 : (Jvm.Cond.instanceMethod ({ cls := "EdgeLettersModel", name := "exchange", desc := "(II)I" } : Jvm.MethodName)) ∈ lw_all := lw_g (lw_at lw_m8 99 rfl) rfl
theorem q1898 : (Jvm.Cond.selects "EdgeLettersModel" ({ cls := "EdgeLettersModel", name := "exchange", desc := "(II)I" } : Jvm.MethodName) ({ cls := "EdgeLettersModel", name := "exchange", desc := "(II)I" } : Jvm.MethodName)) ∈ lw_all := lw_g (lw_at lw_m8 100 rfl) rfl
theorem q1899 : (Jvm.Cond.code ({ cls := "EdgeLettersModel", name := "exchange", desc := "(II)I" } : Jvm.MethodName) prog_10_method_67_code (7 : Nat) (Option.some Jvm.ClassFile.FieldType.int)) ∈ lw_all := lw_g (lw_at lw_m8 101 rfl) rfl
theorem q1900 : (Jvm.Cond.methodLink "EdgeLettersModel" (236 : Nat) ({ cls := "EdgeLettersModel", name := "exchanged", desc := "(III)I" } : Jvm.MethodName)) ∈ lw_all := lw_g (lw_at lw_m8 102 rfl) rfl
theorem q1901 : (Jvm.Cond.static ({ cls := "EdgeLettersModel", name := "exchanged", desc := "(III)I" } : Jvm.MethodName)) ∈ lw_all := lw_g (lw_at lw_m8 103 rfl) rfl
theorem q1902 : (Jvm.Cond.code ({ cls := "EdgeLettersModel", name := "exchanged", desc := "(III)I" } : Jvm.MethodName) prog_10_method_66_code (3 : Nat) (Option.some Jvm.ClassFile.FieldType.int)) ∈ lw_all := lw_g (lw_at lw_m8 104 rfl) rfl
theorem q1903 : (Jvm.Cond.methodLink "EdgeLettersModel" (102 : Nat) ({ cls := "EdgeLettersModel", name := "has", desc := "(II)Z" } : Jvm.MethodName)) ∈ lw_all := lw_g (lw_at lw_m8 105 rfl) rfl
theorem q1904 : (Jvm.Cond.static ({ cls := "EdgeLettersModel", name := "has", desc := "(II)Z" } : Jvm.MethodName)) ∈ lw_all := lw_g (lw_at lw_m8 106 rfl) rfl
theorem q1905 : (Jvm.Cond.code ({ cls := "EdgeLettersModel", name := "has", desc := "(II)Z" } : Jvm.MethodName) prog_10_method_20_code (2 : Nat) (Option.some Jvm.ClassFile.FieldType.boolean)) ∈ lw_all := lw_g (lw_at lw_m8 107 rfl) rfl
theorem q1907 : (Jvm.Cond.instanceMethod ({ cls := "EdgeLettersModel", name := "mirror", desc := "()I" } : Jvm.MethodName)) ∈ lw_all := lw_g (lw_at lw_m8 109 rfl) rfl
theorem q1908 : (Jvm.Cond.selects "EdgeLettersModel" ({ cls := "EdgeLettersModel", name := "mirror", desc := "()I" } : Jvm.MethodName) ({ cls := "EdgeLettersModel", name := "mirror", desc := "()I" } : Jvm.MethodName)) ∈ lw_all := lw_g (lw_at lw_m8 110 rfl) rfl
theorem q1909 : (Jvm.Cond.code ({ cls := "EdgeLettersModel", name := "mirror", desc := "()I" } : Jvm.MethodName) prog_10_method_69_code (4 : Nat) (Option.some Jvm.ClassFile.FieldType.int)) ∈ lw_all := lw_g (lw_at lw_m8 111 rfl) rfl
theorem q1910 : (Jvm.Cond.methodLink "EdgeLettersModel" (239 : Nat) ({ cls := "EdgeLettersModel", name := "swaps", desc := "(II)V" } : Jvm.MethodName)) ∈ lw_all := lw_g (lw_at lw_m8 112 rfl) rfl
theorem q1911 : (Jvm.Cond.privateMethod ({ cls := "EdgeLettersModel", name := "swaps", desc := "(II)V" } : Jvm.MethodName)) ∈ lw_tbl := lw_at lw_m8 113 rfl
theorem q1912 : (Jvm.Cond.instanceMethod ({ cls := "EdgeLettersModel", name := "swaps", desc := "(II)V" } : Jvm.MethodName)) ∈ lw_all := lw_g (lw_at lw_m8 114 rfl) rfl
theorem q1913 : (Jvm.Cond.code ({ cls := "EdgeLettersModel", name := "swaps", desc := "(II)V" } : Jvm.MethodName) prog_10_method_68_code (4 : Nat) (Option.none : Option Jvm.ClassFile.FieldType)) ∈ lw_all := lw_g (lw_at lw_m8 115 rfl) rfl
theorem q1915 : (Jvm.Cond.instanceMethod ({ cls := "EdgeLettersModel", name := "side", desc := "()I" } : Jvm.MethodName)) ∈ lw_all := lw_g (lw_at lw_m8 117 rfl) rfl
theorem q1916 : (Jvm.Cond.selects "EdgeLettersModel" ({ cls := "EdgeLettersModel", name := "side", desc := "()I" } : Jvm.MethodName) ({ cls := "EdgeLettersModel", name := "side", desc := "()I" } : Jvm.MethodName)) ∈ lw_all := lw_g (lw_at lw_m8 118 rfl) rfl
theorem q1917 : (Jvm.Cond.code ({ cls := "EdgeLettersModel", name := "side", desc := "()I" } : Jvm.MethodName) prog_10_method_70_code (1 : Nat) (Option.some Jvm.ClassFile.FieldType.int)) ∈ lw_all := lw_g (lw_at lw_m8 119 rfl) rfl
theorem q1918 : (Jvm.Cond.methodLink "EdgeLettersModel" (242 : Nat) ({ cls := "EdgeLettersModel", name := "told", desc := "(I)I" } : Jvm.MethodName)) ∈ lw_all := lw_g (lw_at lw_m8 120 rfl) rfl
theorem q1919 : (Jvm.Cond.privateMethod ({ cls := "EdgeLettersModel", name := "told", desc := "(I)I" } : Jvm.MethodName)) ∈ lw_tbl := lw_at lw_m8 121 rfl
theorem q1920 : (Jvm.Cond.instanceMethod ({ cls := "EdgeLettersModel", name := "told", desc := "(I)I" } : Jvm.MethodName)) ∈ lw_all := lw_g (lw_at lw_m8 122 rfl) rfl
theorem q1921 : (Jvm.Cond.code ({ cls := "EdgeLettersModel", name := "told", desc := "(I)I" } : Jvm.MethodName) prog_10_method_6_code (2 : Nat) (Option.some Jvm.ClassFile.FieldType.int)) ∈ lw_all := lw_g (lw_at lw_m8 123 rfl) rfl
theorem q1923 : (Jvm.Cond.instanceMethod ({ cls := "EdgeLettersModel", name := "letterCount", desc := "()I" } : Jvm.MethodName)) ∈ lw_all := lw_g (lw_at lw_m8 125 rfl) rfl
theorem q1924 : (Jvm.Cond.selects "EdgeLettersModel" ({ cls := "EdgeLettersModel", name := "letterCount", desc := "()I" } : Jvm.MethodName) ({ cls := "EdgeLettersModel", name := "letterCount", desc := "()I" } : Jvm.MethodName)) ∈ lw_all := lw_g (lw_at lw_m8 126 rfl) rfl
theorem q1925 : (Jvm.Cond.code ({ cls := "EdgeLettersModel", name := "letterCount", desc := "()I" } : Jvm.MethodName) prog_10_method_71_code (1 : Nat) (Option.some Jvm.ClassFile.FieldType.int)) ∈ lw_all := lw_g (lw_at lw_m8 127 rfl) rfl
theorem q1927 : (Jvm.Cond.instanceMethod ({ cls := "EdgeLettersModel", name := "lineCount", desc := "()I" } : Jvm.MethodName)) ∈ lw_all := lw_g (lw_at lw_m8 129 rfl) rfl
theorem q1928 : (Jvm.Cond.selects "EdgeLettersModel" ({ cls := "EdgeLettersModel", name := "lineCount", desc := "()I" } : Jvm.MethodName) ({ cls := "EdgeLettersModel", name := "lineCount", desc := "()I" } : Jvm.MethodName)) ∈ lw_all := lw_g (lw_at lw_m8 130 rfl) rfl
theorem q1929 : (Jvm.Cond.code ({ cls := "EdgeLettersModel", name := "lineCount", desc := "()I" } : Jvm.MethodName) prog_10_method_72_code (1 : Nat) (Option.some Jvm.ClassFile.FieldType.int)) ∈ lw_all := lw_g (lw_at lw_m8 131 rfl) rfl
theorem q1930 : (Jvm.Cond.methodLink "EdgeLettersModel" (77 : Nat) ({ cls := "EdgeLettersModel", name := "lines", desc := "()I" } : Jvm.MethodName)) ∈ lw_all := lw_g (lw_at lw_m8 132 rfl) rfl
theorem q1931 : (Jvm.Cond.privateMethod ({ cls := "EdgeLettersModel", name := "lines", desc := "()I" } : Jvm.MethodName)) ∈ lw_tbl := lw_at lw_m8 133 rfl
theorem q1932 : (Jvm.Cond.instanceMethod ({ cls := "EdgeLettersModel", name := "lines", desc := "()I" } : Jvm.MethodName)) ∈ lw_all := lw_g (lw_at lw_m8 134 rfl) rfl
theorem q1933 : (Jvm.Cond.code ({ cls := "EdgeLettersModel", name := "lines", desc := "()I" } : Jvm.MethodName) prog_10_method_11_code (1 : Nat) (Option.some Jvm.ClassFile.FieldType.int)) ∈ lw_all := lw_g (lw_at lw_m8 135 rfl) rfl
theorem q1935 : (Jvm.Cond.instanceMethod ({ cls := "EdgeLettersModel", name := "tellingCount", desc := "()I" } : Jvm.MethodName)) ∈ lw_all := lw_g (lw_at lw_m8 137 rfl) rfl
theorem q1936 : (Jvm.Cond.selects "EdgeLettersModel" ({ cls := "EdgeLettersModel", name := "tellingCount", desc := "()I" } : Jvm.MethodName) ({ cls := "EdgeLettersModel", name := "tellingCount", desc := "()I" } : Jvm.MethodName)) ∈ lw_all := lw_g (lw_at lw_m8 138 rfl) rfl
theorem q1937 : (Jvm.Cond.code ({ cls := "EdgeLettersModel", name := "tellingCount", desc := "()I" } : Jvm.MethodName) prog_10_method_73_code (1 : Nat) (Option.some Jvm.ClassFile.FieldType.int)) ∈ lw_all := lw_g (lw_at lw_m8 139 rfl) rfl
theorem q1939 : (Jvm.Cond.instanceMethod ({ cls := "EdgeLettersModel", name := "tellingAt", desc := "(I)I" } : Jvm.MethodName)) ∈ lw_all := lw_g (lw_at lw_m8 141 rfl) rfl
theorem q1940 : (Jvm.Cond.selects "EdgeLettersModel" ({ cls := "EdgeLettersModel", name := "tellingAt", desc := "(I)I" } : Jvm.MethodName) ({ cls := "EdgeLettersModel", name := "tellingAt", desc := "(I)I" } : Jvm.MethodName)) ∈ lw_all := lw_g (lw_at lw_m8 142 rfl) rfl
theorem q1941 : (Jvm.Cond.code ({ cls := "EdgeLettersModel", name := "tellingAt", desc := "(I)I" } : Jvm.MethodName) prog_10_method_74_code (2 : Nat) (Option.some Jvm.ClassFile.FieldType.int)) ∈ lw_all := lw_g (lw_at lw_m8 143 rfl) rfl
theorem q1943 : (Jvm.Cond.instanceMethod ({ cls := "EdgeLettersModel", name := "isSecond", desc := "(I)Z" } : Jvm.MethodName)) ∈ lw_all := lw_g (lw_at lw_m8 145 rfl) rfl
theorem q1944 : (Jvm.Cond.selects "EdgeLettersModel" ({ cls := "EdgeLettersModel", name := "isSecond", desc := "(I)Z" } : Jvm.MethodName) ({ cls := "EdgeLettersModel", name := "isSecond", desc := "(I)Z" } : Jvm.MethodName)) ∈ lw_all := lw_g (lw_at lw_m8 146 rfl) rfl
theorem q1945 : (Jvm.Cond.code ({ cls := "EdgeLettersModel", name := "isSecond", desc := "(I)Z" } : Jvm.MethodName) prog_10_method_75_code (2 : Nat) (Option.some Jvm.ClassFile.FieldType.boolean)) ∈ lw_all := lw_g (lw_at lw_m8 147 rfl) rfl
theorem q1947 : (Jvm.Cond.instanceMethod ({ cls := "EdgeLettersModel", name := "cellOf", desc := "(II)I" } : Jvm.MethodName)) ∈ lw_all := lw_g (lw_at lw_m8 149 rfl) rfl
theorem q1948 : (Jvm.Cond.selects "EdgeLettersModel" ({ cls := "EdgeLettersModel", name := "cellOf", desc := "(II)I" } : Jvm.MethodName) ({ cls := "EdgeLettersModel", name := "cellOf", desc := "(II)I" } : Jvm.MethodName)) ∈ lw_all := lw_g (lw_at lw_m8 150 rfl) rfl
theorem q1949 : (Jvm.Cond.code ({ cls := "EdgeLettersModel", name := "cellOf", desc := "(II)I" } : Jvm.MethodName) prog_10_method_77_code (3 : Nat) (Option.some Jvm.ClassFile.FieldType.int)) ∈ lw_all := lw_g (lw_at lw_m8 151 rfl) rfl
theorem q1950 : (Jvm.Cond.methodLink "EdgeLettersModel" (248 : Nat) ({ cls := "EdgeLettersModel", name := "isPlace", desc := "(II)Z" } : Jvm.MethodName)) ∈ lw_all := lw_g (lw_at lw_m8 152 rfl) rfl
theorem q1951 : (Jvm.Cond.privateMethod ({ cls := "EdgeLettersModel", name := "isPlace", desc := "(II)Z" } : Jvm.MethodName)) ∈ lw_tbl := lw_at lw_m8 153 rfl
theorem q1952 : (Jvm.Cond.instanceMethod ({ cls := "EdgeLettersModel", name := "isPlace", desc := "(II)Z" } : Jvm.MethodName)) ∈ lw_all := lw_g (lw_at lw_m8 154 rfl) rfl
theorem q1953 : (Jvm.Cond.code ({ cls := "EdgeLettersModel", name := "isPlace", desc := "(II)Z" } : Jvm.MethodName) prog_10_method_76_code (3 : Nat) (Option.some Jvm.ClassFile.FieldType.boolean)) ∈ lw_all := lw_g (lw_at lw_m8 155 rfl) rfl
theorem q1954 : (Jvm.Cond.methodLink "EdgeLettersModel" (245 : Nat) ({ cls := "EdgeLettersModel", name := "isLine", desc := "(I)Z" } : Jvm.MethodName)) ∈ lw_all := lw_g (lw_at lw_m8 156 rfl) rfl
theorem q1955 : (Jvm.Cond.privateMethod ({ cls := "EdgeLettersModel", name := "isLine", desc := "(I)Z" } : Jvm.MethodName)) ∈ lw_tbl := lw_at lw_m8 157 rfl
theorem q1956 : (Jvm.Cond.instanceMethod ({ cls := "EdgeLettersModel", name := "isLine", desc := "(I)Z" } : Jvm.MethodName)) ∈ lw_all := lw_g (lw_at lw_m8 158 rfl) rfl
theorem q1957 : (Jvm.Cond.code ({ cls := "EdgeLettersModel", name := "isLine", desc := "(I)Z" } : Jvm.MethodName) prog_10_method_17_code (2 : Nat) (Option.some Jvm.ClassFile.FieldType.boolean)) ∈ lw_all := lw_g (lw_at lw_m8 159 rfl) rfl
theorem q1959 : (Jvm.Cond.instanceMethod ({ cls := "EdgeLettersModel", name := "put", desc := "(II)I" } : Jvm.MethodName)) ∈ lw_all := lw_g (lw_at lw_m8 161 rfl) rfl
theorem q1960 : (Jvm.Cond.selects "EdgeLettersModel" ({ cls := "EdgeLettersModel", name := "put", desc := "(II)I" } : Jvm.MethodName) ({ cls := "EdgeLettersModel", name := "put", desc := "(II)I" } : Jvm.MethodName)) ∈ lw_all := lw_g (lw_at lw_m8 162 rfl) rfl
theorem q1961 : (Jvm.Cond.code ({ cls := "EdgeLettersModel", name := "put", desc := "(II)I" } : Jvm.MethodName) prog_10_method_79_code (3 : Nat) (Option.some Jvm.ClassFile.FieldType.int)) ∈ lw_all := lw_g (lw_at lw_m8 163 rfl) rfl
theorem q1962 : (Jvm.Cond.methodLink "EdgeLettersModel" (251 : Nat) ({ cls := "EdgeLettersModel", name := "isCell", desc := "(I)Z" } : Jvm.MethodName)) ∈ lw_all := lw_g (lw_at lw_m8 164 rfl) rfl
theorem q1963 : (Jvm.Cond.privateMethod ({ cls := "EdgeLettersModel", name := "isCell", desc := "(I)Z" } : Jvm.MethodName)) ∈ lw_tbl := lw_at lw_m8 165 rfl
theorem q1964 : (Jvm.Cond.instanceMethod ({ cls := "EdgeLettersModel", name := "isCell", desc := "(I)Z" } : Jvm.MethodName)) ∈ lw_all := lw_g (lw_at lw_m8 166 rfl) rfl
theorem q1965 : (Jvm.Cond.code ({ cls := "EdgeLettersModel", name := "isCell", desc := "(I)Z" } : Jvm.MethodName) prog_10_method_13_code (2 : Nat) (Option.some Jvm.ClassFile.FieldType.boolean)) ∈ lw_all := lw_g (lw_at lw_m8 167 rfl) rfl
theorem q1966 : (Jvm.Cond.methodLink "EdgeLettersModel" (254 : Nat) ({ cls := "EdgeLettersModel", name := "isThing", desc := "(I)Z" } : Jvm.MethodName)) ∈ lw_all := lw_g (lw_at lw_m8 168 rfl) rfl
theorem q1967 : (Jvm.Cond.privateMethod ({ cls := "EdgeLettersModel", name := "isThing", desc := "(I)Z" } : Jvm.MethodName)) ∈ lw_tbl := lw_at lw_m8 169 rfl
theorem q1968 : (Jvm.Cond.instanceMethod ({ cls := "EdgeLettersModel", name := "isThing", desc := "(I)Z" } : Jvm.MethodName)) ∈ lw_all := lw_g (lw_at lw_m8 170 rfl) rfl
theorem q1969 : (Jvm.Cond.code ({ cls := "EdgeLettersModel", name := "isThing", desc := "(I)Z" } : Jvm.MethodName) prog_10_method_16_code (2 : Nat) (Option.some Jvm.ClassFile.FieldType.boolean)) ∈ lw_all := lw_g (lw_at lw_m8 171 rfl) rfl
theorem q1970 : (Jvm.Cond.methodLink "EdgeLettersModel" (257 : Nat) ({ cls := "EdgeLettersModel", name := "puts", desc := "(II)I" } : Jvm.MethodName)) ∈ lw_all := lw_g (lw_at lw_m8 172 rfl) rfl
theorem q1971 : (Jvm.Cond.privateMethod ({ cls := "EdgeLettersModel", name := "puts", desc := "(II)I" } : Jvm.MethodName)) ∈ lw_tbl := lw_at lw_m8 173 rfl
theorem q1972 : (Jvm.Cond.instanceMethod ({ cls := "EdgeLettersModel", name := "puts", desc := "(II)I" } : Jvm.MethodName)) ∈ lw_all := lw_g (lw_at lw_m8 174 rfl) rfl
theorem q1973 : (Jvm.Cond.code ({ cls := "EdgeLettersModel", name := "puts", desc := "(II)I" } : Jvm.MethodName) prog_10_method_78_code (4 : Nat) (Option.some Jvm.ClassFile.FieldType.int)) ∈ lw_all := lw_g (lw_at lw_m8 175 rfl) rfl
theorem q1975 : (Jvm.Cond.instanceMethod ({ cls := "EdgeLettersModel", name := "crossOut", desc := "(II)I" } : Jvm.MethodName)) ∈ lw_all := lw_g (lw_at lw_m8 177 rfl) rfl
theorem q1976 : (Jvm.Cond.selects "EdgeLettersModel" ({ cls := "EdgeLettersModel", name := "crossOut", desc := "(II)I" } : Jvm.MethodName) ({ cls := "EdgeLettersModel", name := "crossOut", desc := "(II)I" } : Jvm.MethodName)) ∈ lw_all := lw_g (lw_at lw_m8 178 rfl) rfl
theorem q1977 : (Jvm.Cond.code ({ cls := "EdgeLettersModel", name := "crossOut", desc := "(II)I" } : Jvm.MethodName) prog_10_method_80_code (4 : Nat) (Option.some Jvm.ClassFile.FieldType.int)) ∈ lw_all := lw_g (lw_at lw_m8 179 rfl) rfl
theorem q1979 : (Jvm.Cond.instanceMethod ({ cls := "EdgeLettersModel", name := "clearCells", desc := "()I" } : Jvm.MethodName)) ∈ lw_all := lw_g (lw_at lw_m8 181 rfl) rfl
theorem q1980 : (Jvm.Cond.selects "EdgeLettersModel" ({ cls := "EdgeLettersModel", name := "clearCells", desc := "()I" } : Jvm.MethodName) ({ cls := "EdgeLettersModel", name := "clearCells", desc := "()I" } : Jvm.MethodName)) ∈ lw_all := lw_g (lw_at lw_m8 182 rfl) rfl
theorem q1981 : (Jvm.Cond.code ({ cls := "EdgeLettersModel", name := "clearCells", desc := "()I" } : Jvm.MethodName) prog_10_method_81_code (3 : Nat) (Option.some Jvm.ClassFile.FieldType.int)) ∈ lw_all := lw_g (lw_at lw_m8 183 rfl) rfl
theorem q1983 : (Jvm.Cond.instanceMethod ({ cls := "EdgeLettersModel", name := "thingsOf", desc := "(I)I" } : Jvm.MethodName)) ∈ lw_all := lw_g (lw_at lw_m8 185 rfl) rfl
theorem q1984 : (Jvm.Cond.selects "EdgeLettersModel" ({ cls := "EdgeLettersModel", name := "thingsOf", desc := "(I)I" } : Jvm.MethodName) ({ cls := "EdgeLettersModel", name := "thingsOf", desc := "(I)I" } : Jvm.MethodName)) ∈ lw_all := lw_g (lw_at lw_m8 186 rfl) rfl
theorem q1985 : (Jvm.Cond.code ({ cls := "EdgeLettersModel", name := "thingsOf", desc := "(I)I" } : Jvm.MethodName) prog_10_method_82_code (2 : Nat) (Option.some Jvm.ClassFile.FieldType.int)) ∈ lw_all := lw_g (lw_at lw_m8 187 rfl) rfl
theorem q1987 : (Jvm.Cond.instanceMethod ({ cls := "EdgeLettersModel", name := "cellsWith", desc := "(I)J" } : Jvm.MethodName)) ∈ lw_all := lw_g (lw_at lw_m8 189 rfl) rfl
theorem q1988 : (Jvm.Cond.selects "EdgeLettersModel" ({ cls := "EdgeLettersModel", name := "cellsWith", desc := "(I)J" } : Jvm.MethodName) ({ cls := "EdgeLettersModel", name := "cellsWith", desc := "(I)J" } : Jvm.MethodName)) ∈ lw_all := lw_g (lw_at lw_m8 190 rfl) rfl
theorem q1989 : (Jvm.Cond.code ({ cls := "EdgeLettersModel", name := "cellsWith", desc := "(I)J" } : Jvm.MethodName) prog_10_method_83_code (6 : Nat) (Option.some Jvm.ClassFile.FieldType.long)) ∈ lw_all := lw_g (lw_at lw_m8 191 rfl) rfl
theorem q1991 : (Jvm.Cond.instanceMethod ({ cls := "EdgeLettersModel", name := "settled", desc := "()J" } : Jvm.MethodName)) ∈ lw_all := lw_g (lw_at lw_m8 193 rfl) rfl
theorem q1992 : (Jvm.Cond.selects "EdgeLettersModel" ({ cls := "EdgeLettersModel", name := "settled", desc := "()J" } : Jvm.MethodName) ({ cls := "EdgeLettersModel", name := "settled", desc := "()J" } : Jvm.MethodName)) ∈ lw_all := lw_g (lw_at lw_m8 194 rfl) rfl
theorem q1993 : (Jvm.Cond.code ({ cls := "EdgeLettersModel", name := "settled", desc := "()J" } : Jvm.MethodName) prog_10_method_84_code (4 : Nat) (Option.some Jvm.ClassFile.FieldType.long)) ∈ lw_all := lw_g (lw_at lw_m8 195 rfl) rfl
theorem q1994 : (Jvm.Cond.methodLink "EdgeLettersModel" (136 : Nat) ({ cls := "EdgeLettersModel", name := "isSettled", desc := "(I)Z" } : Jvm.MethodName)) ∈ lw_all := lw_g (lw_at lw_m8 196 rfl) rfl
theorem q1995 : (Jvm.Cond.privateMethod ({ cls := "EdgeLettersModel", name := "isSettled", desc := "(I)Z" } : Jvm.MethodName)) ∈ lw_tbl := lw_at lw_m8 197 rfl
theorem q1996 : (Jvm.Cond.instanceMethod ({ cls := "EdgeLettersModel", name := "isSettled", desc := "(I)Z" } : Jvm.MethodName)) ∈ lw_all := lw_g (lw_at lw_m8 198 rfl) rfl
theorem q1997 : (Jvm.Cond.code ({ cls := "EdgeLettersModel", name := "isSettled", desc := "(I)Z" } : Jvm.MethodName) prog_10_method_37_code (2 : Nat) (Option.some Jvm.ClassFile.FieldType.boolean)) ∈ lw_all := lw_g (lw_at lw_m8 199 rfl) rfl
theorem q1998 : (Jvm.Cond.methodLink "EdgeLettersModel" (133 : Nat) ({ cls := "EdgeLettersModel", name := "many", desc := "(I)I" } : Jvm.MethodName)) ∈ lw_all := lw_g (lw_at lw_m8 200 rfl) rfl
theorem q1999 : (Jvm.Cond.static ({ cls := "EdgeLettersModel", name := "many", desc := "(I)I" } : Jvm.MethodName)) ∈ lw_all := lw_g (lw_at lw_m8 201 rfl) rfl
theorem q2000 : (Jvm.Cond.code ({ cls := "EdgeLettersModel", name := "many", desc := "(I)I" } : Jvm.MethodName) prog_10_method_18_code (3 : Nat) (Option.some Jvm.ClassFile.FieldType.int)) ∈ lw_all := lw_g (lw_at lw_m8 202 rfl) rfl
theorem q2002 : (Jvm.Cond.instanceMethod ({ cls := "EdgeLettersModel", name := "isBroken", desc := "()Z" } : Jvm.MethodName)) ∈ lw_all := lw_g (lw_at lw_m8 204 rfl) rfl
theorem q2003 : (Jvm.Cond.selects "EdgeLettersModel" ({ cls := "EdgeLettersModel", name := "isBroken", desc := "()Z" } : Jvm.MethodName) ({ cls := "EdgeLettersModel", name := "isBroken", desc := "()Z" } : Jvm.MethodName)) ∈ lw_all := lw_g (lw_at lw_m8 205 rfl) rfl
theorem q2004 : (Jvm.Cond.code ({ cls := "EdgeLettersModel", name := "isBroken", desc := "()Z" } : Jvm.MethodName) prog_10_method_85_code (1 : Nat) (Option.some Jvm.ClassFile.FieldType.boolean)) ∈ lw_all := lw_g (lw_at lw_m8 206 rfl) rfl
theorem q2005 : (Jvm.Cond.methodLink "EdgeLettersModel" (260 : Nat) ({ cls := "EdgeLettersModel", name := "brokenNow", desc := "()I" } : Jvm.MethodName)) ∈ lw_all := lw_g (lw_at lw_m8 207 rfl) rfl
theorem q2006 : (Jvm.Cond.privateMethod ({ cls := "EdgeLettersModel", name := "brokenNow", desc := "()I" } : Jvm.MethodName)) ∈ lw_tbl := lw_at lw_m8 208 rfl
theorem q2007 : (Jvm.Cond.instanceMethod ({ cls := "EdgeLettersModel", name := "brokenNow", desc := "()I" } : Jvm.MethodName)) ∈ lw_all := lw_g (lw_at lw_m8 209 rfl) rfl
theorem q2008 : (Jvm.Cond.code ({ cls := "EdgeLettersModel", name := "brokenNow", desc := "()I" } : Jvm.MethodName) prog_10_method_36_code (1 : Nat) (Option.some Jvm.ClassFile.FieldType.int)) ∈ lw_all := lw_g (lw_at lw_m8 210 rfl) rfl
theorem q2009 : (Jvm.Cond.methodLink "EdgeLettersModel" (126 : Nat) ({ cls := "EdgeLettersModel", name := "loads", desc := "(I)V" } : Jvm.MethodName)) ∈ lw_all := lw_g (lw_at lw_m8 211 rfl) rfl
theorem q2010 : (Jvm.Cond.privateMethod ({ cls := "EdgeLettersModel", name := "loads", desc := "(I)V" } : Jvm.MethodName)) ∈ lw_tbl := lw_at lw_m8 212 rfl
theorem q2011 : (Jvm.Cond.instanceMethod ({ cls := "EdgeLettersModel", name := "loads", desc := "(I)V" } : Jvm.MethodName)) ∈ lw_all := lw_g (lw_at lw_m8 213 rfl) rfl
theorem q2012 : (Jvm.Cond.code ({ cls := "EdgeLettersModel", name := "loads", desc := "(I)V" } : Jvm.MethodName) prog_10_method_35_code (3 : Nat) (Option.none : Option Jvm.ClassFile.FieldType)) ∈ lw_all := lw_g (lw_at lw_m8 214 rfl) rfl
theorem q2013 : (Jvm.Cond.methodLink "EdgeLettersModel" (130 : Nat) ({ cls := "EdgeLettersModel", name := "looksAtAll", desc := "(I)I" } : Jvm.MethodName)) ∈ lw_all := lw_g (lw_at lw_m8 215 rfl) rfl
theorem q2014 : (Jvm.Cond.privateMethod ({ cls := "EdgeLettersModel", name := "looksAtAll", desc := "(I)I" } : Jvm.MethodName)) ∈ lw_tbl := lw_at lw_m8 216 rfl
theorem q2015 : (Jvm.Cond.instanceMethod ({ cls := "EdgeLettersModel", name := "looksAtAll", desc := "(I)I" } : Jvm.MethodName)) ∈ lw_all := lw_g (lw_at lw_m8 217 rfl) rfl
theorem q2016 : (Jvm.Cond.code ({ cls := "EdgeLettersModel", name := "looksAtAll", desc := "(I)I" } : Jvm.MethodName) prog_10_method_32_code (5 : Nat) (Option.some Jvm.ClassFile.FieldType.int)) ∈ lw_all := lw_g (lw_at lw_m8 218 rfl) rfl
theorem q2017 : (Jvm.Cond.methodLink "EdgeLettersModel" (119 : Nat) ({ cls := "EdgeLettersModel", name := "looks", desc := "(II)I" } : Jvm.MethodName)) ∈ lw_all := lw_g (lw_at lw_m8 219 rfl) rfl
theorem q2018 : (Jvm.Cond.privateMethod ({ cls := "EdgeLettersModel", name := "looks", desc := "(II)I" } : Jvm.MethodName)) ∈ lw_tbl := lw_at lw_m8 220 rfl
theorem q2019 : (Jvm.Cond.instanceMethod ({ cls := "EdgeLettersModel", name := "looks", desc := "(II)I" } : Jvm.MethodName)) ∈ lw_all := lw_g (lw_at lw_m8 221 rfl) rfl
theorem q2020 : (Jvm.Cond.code ({ cls := "EdgeLettersModel", name := "looks", desc := "(II)I" } : Jvm.MethodName) prog_10_method_31_code (6 : Nat) (Option.some Jvm.ClassFile.FieldType.int)) ∈ lw_all := lw_g (lw_at lw_m8 222 rfl) rfl
theorem q2021 : (Jvm.Cond.methodLink "EdgeLettersModel" (116 : Nat) ({ cls := "EdgeLettersModel", name := "fits", desc := "(III)Z" } : Jvm.MethodName)) ∈ lw_all := lw_g (lw_at lw_m8 223 rfl) rfl
theorem q2022 : (Jvm.Cond.privateMethod ({ cls := "EdgeLettersModel", name := "fits", desc := "(III)Z" } : Jvm.MethodName)) ∈ lw_tbl := lw_at lw_m8 224 rfl
theorem q2023 : (Jvm.Cond.instanceMethod ({ cls := "EdgeLettersModel", name := "fits", desc := "(III)Z" } : Jvm.MethodName)) ∈ lw_all := lw_g (lw_at lw_m8 225 rfl) rfl
theorem q2024 : (Jvm.Cond.code ({ cls := "EdgeLettersModel", name := "fits", desc := "(III)Z" } : Jvm.MethodName) prog_10_method_30_code (5 : Nat) (Option.some Jvm.ClassFile.FieldType.boolean)) ∈ lw_all := lw_g (lw_at lw_m8 226 rfl) rfl
theorem q2025 : (Jvm.Cond.methodLink "EdgeLettersModel" (106 : Nat) ({ cls := "EdgeLettersModel", name := "tellingOf", desc := "(IZ)I" } : Jvm.MethodName)) ∈ lw_all := lw_g (lw_at lw_m8 227 rfl) rfl
theorem q2026 : (Jvm.Cond.privateMethod ({ cls := "EdgeLettersModel", name := "tellingOf", desc := "(IZ)I" } : Jvm.MethodName)) ∈ lw_tbl := lw_at lw_m8 228 rfl
theorem q2027 : (Jvm.Cond.instanceMethod ({ cls := "EdgeLettersModel", name := "tellingOf", desc := "(IZ)I" } : Jvm.MethodName)) ∈ lw_all := lw_g (lw_at lw_m8 229 rfl) rfl
theorem q2028 : (Jvm.Cond.code ({ cls := "EdgeLettersModel", name := "tellingOf", desc := "(IZ)I" } : Jvm.MethodName) prog_10_method_24_code (5 : Nat) (Option.some Jvm.ClassFile.FieldType.int)) ∈ lw_all := lw_g (lw_at lw_m8 230 rfl) rfl
theorem q2029 : (Jvm.Cond.methodLink "EdgeLettersModel" (110 : Nat) ({ cls := "EdgeLettersModel", name := "isTrue", desc := "(III)Z" } : Jvm.MethodName)) ∈ lw_all := lw_g (lw_at lw_m8 231 rfl) rfl
theorem q2030 : (Jvm.Cond.static ({ cls := "EdgeLettersModel", name := "isTrue", desc := "(III)Z" } : Jvm.MethodName)) ∈ lw_all := lw_g (lw_at lw_m8 232 rfl) rfl
theorem q2031 : (Jvm.Cond.code ({ cls := "EdgeLettersModel", name := "isTrue", desc := "(III)Z" } : Jvm.MethodName) prog_10_method_25_code (3 : Nat) (Option.some Jvm.ClassFile.FieldType.boolean)) ∈ lw_all := lw_g (lw_at lw_m8 233 rfl) rfl
theorem q2033 : (Jvm.Cond.instanceMethod ({ cls := "EdgeLettersModel", name := "isSolved", desc := "()Z" } : Jvm.MethodName)) ∈ lw_all := lw_g (lw_at lw_m8 235 rfl) rfl
theorem q2034 : (Jvm.Cond.selects "EdgeLettersModel" ({ cls := "EdgeLettersModel", name := "isSolved", desc := "()Z" } : Jvm.MethodName) ({ cls := "EdgeLettersModel", name := "isSolved", desc := "()Z" } : Jvm.MethodName)) ∈ lw_all := lw_g (lw_at lw_m8 236 rfl) rfl
theorem q2035 : (Jvm.Cond.code ({ cls := "EdgeLettersModel", name := "isSolved", desc := "()Z" } : Jvm.MethodName) prog_10_method_86_code (1 : Nat) (Option.some Jvm.ClassFile.FieldType.boolean)) ∈ lw_all := lw_g (lw_at lw_m8 237 rfl) rfl
theorem q2036 : (Jvm.Cond.methodLink "EdgeLettersModel" (263 : Nat) ({ cls := "EdgeLettersModel", name := "isSolution", desc := "(I)Z" } : Jvm.MethodName)) ∈ lw_all := lw_g (lw_at lw_m8 238 rfl) rfl
theorem q2037 : (Jvm.Cond.privateMethod ({ cls := "EdgeLettersModel", name := "isSolution", desc := "(I)Z" } : Jvm.MethodName)) ∈ lw_tbl := lw_at lw_m8 239 rfl
theorem q2038 : (Jvm.Cond.instanceMethod ({ cls := "EdgeLettersModel", name := "isSolution", desc := "(I)Z" } : Jvm.MethodName)) ∈ lw_all := lw_g (lw_at lw_m9 0 rfl) rfl
theorem q2039 : (Jvm.Cond.code ({ cls := "EdgeLettersModel", name := "isSolution", desc := "(I)Z" } : Jvm.MethodName) prog_10_method_38_code (4 : Nat) (Option.some Jvm.ClassFile.FieldType.boolean)) ∈ lw_all := lw_g (lw_at lw_m9 1 rfl) rfl
theorem q2041 : (Jvm.Cond.instanceMethod ({ cls := "EdgeLettersModel", name := "arrangements", desc := "(I)I" } : Jvm.MethodName)) ∈ lw_all := lw_g (lw_at lw_m9 3 rfl) rfl
theorem q2042 : (Jvm.Cond.selects "EdgeLettersModel" ({ cls := "EdgeLettersModel", name := "arrangements", desc := "(I)I" } : Jvm.MethodName) ({ cls := "EdgeLettersModel", name := "arrangements", desc := "(I)I" } : Jvm.MethodName)) ∈ lw_all := lw_g (lw_at lw_m9 4 rfl) rfl
theorem q2043 : (Jvm.Cond.code ({ cls := "EdgeLettersModel", name := "arrangements", desc := "(I)I" } : Jvm.MethodName) prog_10_method_87_code (2 : Nat) (Option.some Jvm.ClassFile.FieldType.int)) ∈ lw_all := lw_g (lw_at lw_m9 5 rfl) rfl
theorem q2045 : (Jvm.Cond.instanceMethod ({ cls := "EdgeLettersModel", name := "arrangementsByCells", desc := "(I)I" } : Jvm.MethodName)) ∈ lw_all := lw_g (lw_at lw_m9 7 rfl) rfl
theorem q2046 : (Jvm.Cond.selects "EdgeLettersModel" ({ cls := "EdgeLettersModel", name := "arrangementsByCells", desc := "(I)I" } : Jvm.MethodName) ({ cls := "EdgeLettersModel", name := "arrangementsByCells", desc := "(I)I" } : Jvm.MethodName)) ∈ lw_all := lw_g (lw_at lw_m9 8 rfl) rfl
theorem q2047 : (Jvm.Cond.code ({ cls := "EdgeLettersModel", name := "arrangementsByCells", desc := "(I)I" } : Jvm.MethodName) prog_10_method_89_code (2 : Nat) (Option.some Jvm.ClassFile.FieldType.int)) ∈ lw_all := lw_g (lw_at lw_m9 9 rfl) rfl
theorem q2048 : (Jvm.Cond.methodLink "EdgeLettersModel" (266 : Nat) ({ cls := "EdgeLettersModel", name := "counts", desc := "(I)I" } : Jvm.MethodName)) ∈ lw_all := lw_g (lw_at lw_m9 10 rfl) rfl
theorem q2049 : (Jvm.Cond.privateMethod ({ cls := "EdgeLettersModel", name := "counts", desc := "(I)I" } : Jvm.MethodName)) ∈ lw_tbl := lw_at lw_m9 11 rfl
theorem q2050 : (Jvm.Cond.instanceMethod ({ cls := "EdgeLettersModel", name := "counts", desc := "(I)I" } : Jvm.MethodName)) ∈ lw_all := lw_g (lw_at lw_m9 12 rfl) rfl
theorem q2051 : (Jvm.Cond.code ({ cls := "EdgeLettersModel", name := "counts", desc := "(I)I" } : Jvm.MethodName) prog_10_method_88_code (10 : Nat) (Option.some Jvm.ClassFile.FieldType.int)) ∈ lw_all := lw_g (lw_at lw_m9 13 rfl) rfl
theorem q2052 : (Jvm.Cond.methodLink "EdgeLettersModel" (200 : Nat) ({ cls := "EdgeLettersModel", name := "isInOrder", desc := "(III)Z" } : Jvm.MethodName)) ∈ lw_all := lw_g (lw_at lw_m9 14 rfl) rfl
theorem q2053 : (Jvm.Cond.static ({ cls := "EdgeLettersModel", name := "isInOrder", desc := "(III)Z" } : Jvm.MethodName)) ∈ lw_all := lw_g (lw_at lw_m9 15 rfl) rfl
theorem q2054 : (Jvm.Cond.code ({ cls := "EdgeLettersModel", name := "isInOrder", desc := "(III)Z" } : Jvm.MethodName) prog_10_method_55_code (3 : Nat) (Option.some Jvm.ClassFile.FieldType.boolean)) ∈ lw_all := lw_g (lw_at lw_m9 16 rfl) rfl
theorem q2056 : (Jvm.Cond.instanceMethod ({ cls := "EdgeLettersModel", name := "thingsIn", desc := "(II)I" } : Jvm.MethodName)) ∈ lw_all := lw_g (lw_at lw_m9 18 rfl) rfl
theorem q2057 : (Jvm.Cond.selects "EdgeLettersModel" ({ cls := "EdgeLettersModel", name := "thingsIn", desc := "(II)I" } : Jvm.MethodName) ({ cls := "EdgeLettersModel", name := "thingsIn", desc := "(II)I" } : Jvm.MethodName)) ∈ lw_all := lw_g (lw_at lw_m9 19 rfl) rfl
theorem q2058 : (Jvm.Cond.code ({ cls := "EdgeLettersModel", name := "thingsIn", desc := "(II)I" } : Jvm.MethodName) prog_10_method_90_code (4 : Nat) (Option.some Jvm.ClassFile.FieldType.int)) ∈ lw_all := lw_g (lw_at lw_m9 20 rfl) rfl
theorem q2060 : (Jvm.Cond.instanceMethod ({ cls := "EdgeLettersModel", name := "brokenLines", desc := "()I" } : Jvm.MethodName)) ∈ lw_all := lw_g (lw_at lw_m9 22 rfl) rfl
theorem q2061 : (Jvm.Cond.selects "EdgeLettersModel" ({ cls := "EdgeLettersModel", name := "brokenLines", desc := "()I" } : Jvm.MethodName) ({ cls := "EdgeLettersModel", name := "brokenLines", desc := "()I" } : Jvm.MethodName)) ∈ lw_all := lw_g (lw_at lw_m9 23 rfl) rfl
theorem q2062 : (Jvm.Cond.code ({ cls := "EdgeLettersModel", name := "brokenLines", desc := "()I" } : Jvm.MethodName) prog_10_method_91_code (1 : Nat) (Option.some Jvm.ClassFile.FieldType.int)) ∈ lw_all := lw_g (lw_at lw_m9 24 rfl) rfl
theorem q2064 : (Jvm.Cond.instanceMethod ({ cls := "EdgeLettersModel", name := "seenFrom", desc := "(II)I" } : Jvm.MethodName)) ∈ lw_all := lw_g (lw_at lw_m9 26 rfl) rfl
theorem q2065 : (Jvm.Cond.selects "EdgeLettersModel" ({ cls := "EdgeLettersModel", name := "seenFrom", desc := "(II)I" } : Jvm.MethodName) ({ cls := "EdgeLettersModel", name := "seenFrom", desc := "(II)I" } : Jvm.MethodName)) ∈ lw_all := lw_g (lw_at lw_m9 27 rfl) rfl
theorem q2066 : (Jvm.Cond.code ({ cls := "EdgeLettersModel", name := "seenFrom", desc := "(II)I" } : Jvm.MethodName) prog_10_method_92_code (11 : Nat) (Option.some Jvm.ClassFile.FieldType.int)) ∈ lw_all := lw_g (lw_at lw_m9 28 rfl) rfl
theorem q2067 : (Jvm.Cond.methodLink "EdgeLettersModel" (183 : Nat) ({ cls := "EdgeLettersModel", name := "only", desc := "(I)I" } : Jvm.MethodName)) ∈ lw_all := lw_g (lw_at lw_m9 29 rfl) rfl
theorem q2068 : (Jvm.Cond.static ({ cls := "EdgeLettersModel", name := "only", desc := "(I)I" } : Jvm.MethodName)) ∈ lw_all := lw_g (lw_at lw_m9 30 rfl) rfl
theorem q2069 : (Jvm.Cond.code ({ cls := "EdgeLettersModel", name := "only", desc := "(I)I" } : Jvm.MethodName) prog_10_method_19_code (3 : Nat) (Option.some Jvm.ClassFile.FieldType.int)) ∈ lw_all := lw_g (lw_at lw_m9 31 rfl) rfl
theorem q2071 : (Jvm.Cond.instanceMethod ({ cls := "EdgeLettersModel", name := "reasonFor", desc := "(II)I" } : Jvm.MethodName)) ∈ lw_all := lw_g (lw_at lw_m9 33 rfl) rfl
theorem q2072 : (Jvm.Cond.selects "EdgeLettersModel" ({ cls := "EdgeLettersModel", name := "reasonFor", desc := "(II)I" } : Jvm.MethodName) ({ cls := "EdgeLettersModel", name := "reasonFor", desc := "(II)I" } : Jvm.MethodName)) ∈ lw_all := lw_g (lw_at lw_m9 34 rfl) rfl
theorem q2073 : (Jvm.Cond.code ({ cls := "EdgeLettersModel", name := "reasonFor", desc := "(II)I" } : Jvm.MethodName) prog_10_method_94_code (3 : Nat) (Option.some Jvm.ClassFile.FieldType.int)) ∈ lw_all := lw_g (lw_at lw_m9 35 rfl) rfl
theorem q2074 : (Jvm.Cond.methodLink "EdgeLettersModel" (269 : Nat) ({ cls := "EdgeLettersModel", name := "reason", desc := "(II)I" } : Jvm.MethodName)) ∈ lw_all := lw_g (lw_at lw_m9 36 rfl) rfl
theorem q2075 : (Jvm.Cond.privateMethod ({ cls := "EdgeLettersModel", name := "reason", desc := "(II)I" } : Jvm.MethodName)) ∈ lw_tbl := lw_at lw_m9 37 rfl
theorem q2076 : (Jvm.Cond.instanceMethod ({ cls := "EdgeLettersModel", name := "reason", desc := "(II)I" } : Jvm.MethodName)) ∈ lw_all := lw_g (lw_at lw_m9 38 rfl) rfl
theorem q2077 : (Jvm.Cond.code ({ cls := "EdgeLettersModel", name := "reason", desc := "(II)I" } : Jvm.MethodName) prog_10_method_93_code (5 : Nat) (Option.some Jvm.ClassFile.FieldType.int)) ∈ lw_all := lw_g (lw_at lw_m9 39 rfl) rfl
theorem q2078 : (Jvm.Cond.methodLink "EdgeLettersModel" (167 : Nat) ({ cls := "EdgeLettersModel", name := "holds", desc := "(IIII)Z" } : Jvm.MethodName)) ∈ lw_all := lw_g (lw_at lw_m9 40 rfl) rfl
theorem q2079 : (Jvm.Cond.privateMethod ({ cls := "EdgeLettersModel", name := "holds", desc := "(IIII)Z" } : Jvm.MethodName)) ∈ lw_tbl := lw_at lw_m9 41 rfl
theorem q2080 : (Jvm.Cond.instanceMethod ({ cls := "EdgeLettersModel", name := "holds", desc := "(IIII)Z" } : Jvm.MethodName)) ∈ lw_all := lw_g (lw_at lw_m9 42 rfl) rfl
theorem q2081 : (Jvm.Cond.code ({ cls := "EdgeLettersModel", name := "holds", desc := "(IIII)Z" } : Jvm.MethodName) prog_10_method_44_code (8 : Nat) (Option.some Jvm.ClassFile.FieldType.boolean)) ∈ lw_all := lw_g (lw_at lw_m9 43 rfl) rfl
theorem q2082 : (Jvm.Cond.methodLink "EdgeLettersModel" (122 : Nat) ({ cls := "EdgeLettersModel", name := "linesOf", desc := "(I)I" } : Jvm.MethodName)) ∈ lw_all := lw_g (lw_at lw_m9 44 rfl) rfl
theorem q2083 : (Jvm.Cond.privateMethod ({ cls := "EdgeLettersModel", name := "linesOf", desc := "(I)I" } : Jvm.MethodName)) ∈ lw_tbl := lw_at lw_m9 45 rfl
theorem q2084 : (Jvm.Cond.instanceMethod ({ cls := "EdgeLettersModel", name := "linesOf", desc := "(I)I" } : Jvm.MethodName)) ∈ lw_all := lw_g (lw_at lw_m9 46 rfl) rfl
theorem q2085 : (Jvm.Cond.code ({ cls := "EdgeLettersModel", name := "linesOf", desc := "(I)I" } : Jvm.MethodName) prog_10_method_23_code (6 : Nat) (Option.some Jvm.ClassFile.FieldType.int)) ∈ lw_all := lw_g (lw_at lw_m9 47 rfl) rfl
theorem q2086 : (Jvm.Cond.methodLink "EdgeLettersModel" (147 : Nat) ({ cls := "EdgeLettersModel", name := "others", desc := "(IIIIZ)I" } : Jvm.MethodName)) ∈ lw_all := lw_g (lw_at lw_m9 48 rfl) rfl
theorem q2087 : (Jvm.Cond.privateMethod ({ cls := "EdgeLettersModel", name := "others", desc := "(IIIIZ)I" } : Jvm.MethodName)) ∈ lw_tbl := lw_at lw_m9 49 rfl
theorem q2088 : (Jvm.Cond.instanceMethod ({ cls := "EdgeLettersModel", name := "others", desc := "(IIIIZ)I" } : Jvm.MethodName)) ∈ lw_all := lw_g (lw_at lw_m9 50 rfl) rfl
theorem q2089 : (Jvm.Cond.code ({ cls := "EdgeLettersModel", name := "others", desc := "(IIIIZ)I" } : Jvm.MethodName) prog_10_method_39_code (10 : Nat) (Option.some Jvm.ClassFile.FieldType.int)) ∈ lw_all := lw_g (lw_at lw_m9 51 rfl) rfl
theorem q2090 : (Jvm.Cond.methodLink "EdgeLettersModel" (151 : Nat) ({ cls := "EdgeLettersModel", name := "isAlone", desc := "(IIII)Z" } : Jvm.MethodName)) ∈ lw_all := lw_g (lw_at lw_m9 52 rfl) rfl
theorem q2091 : (Jvm.Cond.privateMethod ({ cls := "EdgeLettersModel", name := "isAlone", desc := "(IIII)Z" } : Jvm.MethodName)) ∈ lw_tbl := lw_at lw_m9 53 rfl
theorem q2092 : (Jvm.Cond.instanceMethod ({ cls := "EdgeLettersModel", name := "isAlone", desc := "(IIII)Z" } : Jvm.MethodName)) ∈ lw_all := lw_g (lw_at lw_m9 54 rfl) rfl
theorem q2093 : (Jvm.Cond.code ({ cls := "EdgeLettersModel", name := "isAlone", desc := "(IIII)Z" } : Jvm.MethodName) prog_10_method_42_code (7 : Nat) (Option.some Jvm.ClassFile.FieldType.boolean)) ∈ lw_all := lw_g (lw_at lw_m9 55 rfl) rfl
theorem q2094 : (Jvm.Cond.methodLink "EdgeLettersModel" (155 : Nat) ({ cls := "EdgeLettersModel", name := "isFull", desc := "(IIII)Z" } : Jvm.MethodName)) ∈ lw_all := lw_g (lw_at lw_m9 56 rfl) rfl
theorem q2095 : (Jvm.Cond.privateMethod ({ cls := "EdgeLettersModel", name := "isFull", desc := "(IIII)Z" } : Jvm.MethodName)) ∈ lw_tbl := lw_at lw_m9 57 rfl
theorem q2096 : (Jvm.Cond.instanceMethod ({ cls := "EdgeLettersModel", name := "isFull", desc := "(IIII)Z" } : Jvm.MethodName)) ∈ lw_all := lw_g (lw_at lw_m9 58 rfl) rfl
theorem q2097 : (Jvm.Cond.code ({ cls := "EdgeLettersModel", name := "isFull", desc := "(IIII)Z" } : Jvm.MethodName) prog_10_method_43_code (7 : Nat) (Option.some Jvm.ClassFile.FieldType.boolean)) ∈ lw_all := lw_g (lw_at lw_m9 59 rfl) rfl
theorem q2098 : (Jvm.Cond.methodLink "EdgeLettersModel" (158 : Nat) ({ cls := "EdgeLettersModel", name := "isPaired", desc := "(IIII)Z" } : Jvm.MethodName)) ∈ lw_all := lw_g (lw_at lw_m9 60 rfl) rfl
theorem q2099 : (Jvm.Cond.privateMethod ({ cls := "EdgeLettersModel", name := "isPaired", desc := "(IIII)Z" } : Jvm.MethodName)) ∈ lw_tbl := lw_at lw_m9 61 rfl
theorem q2100 : (Jvm.Cond.instanceMethod ({ cls := "EdgeLettersModel", name := "isPaired", desc := "(IIII)Z" } : Jvm.MethodName)) ∈ lw_all := lw_g (lw_at lw_m9 62 rfl) rfl
theorem q2101 : (Jvm.Cond.code ({ cls := "EdgeLettersModel", name := "isPaired", desc := "(IIII)Z" } : Jvm.MethodName) prog_10_method_41_code (9 : Nat) (Option.some Jvm.ClassFile.FieldType.boolean)) ∈ lw_all := lw_g (lw_at lw_m9 63 rfl) rfl
theorem q2102 : (Jvm.Cond.methodLink "EdgeLettersModel" (140 : Nat) ({ cls := "EdgeLettersModel", name := "placesWith", desc := "(III)I" } : Jvm.MethodName)) ∈ lw_all := lw_g (lw_at lw_m9 64 rfl) rfl
theorem q2103 : (Jvm.Cond.privateMethod ({ cls := "EdgeLettersModel", name := "placesWith", desc := "(III)I" } : Jvm.MethodName)) ∈ lw_tbl := lw_at lw_m9 65 rfl
theorem q2104 : (Jvm.Cond.instanceMethod ({ cls := "EdgeLettersModel", name := "placesWith", desc := "(III)I" } : Jvm.MethodName)) ∈ lw_all := lw_g (lw_at lw_m9 66 rfl) rfl
theorem q2105 : (Jvm.Cond.code ({ cls := "EdgeLettersModel", name := "placesWith", desc := "(III)I" } : Jvm.MethodName) prog_10_method_40_code (6 : Nat) (Option.some Jvm.ClassFile.FieldType.int)) ∈ lw_all := lw_g (lw_at lw_m9 67 rfl) rfl
theorem q2106 : (Jvm.Cond.methodLink "EdgeLettersModel" (144 : Nat) ({ cls := "EdgeLettersModel", name := "placeIn", desc := "(II)I" } : Jvm.MethodName)) ∈ lw_all := lw_g (lw_at lw_m9 68 rfl) rfl
theorem q2107 : (Jvm.Cond.privateMethod ({ cls := "EdgeLettersModel", name := "placeIn", desc := "(II)I" } : Jvm.MethodName)) ∈ lw_tbl := lw_at lw_m9 69 rfl
theorem q2108 : (Jvm.Cond.instanceMethod ({ cls := "EdgeLettersModel", name := "placeIn", desc := "(II)I" } : Jvm.MethodName)) ∈ lw_all := lw_g (lw_at lw_m9 70 rfl) rfl
theorem q2109 : (Jvm.Cond.code ({ cls := "EdgeLettersModel", name := "placeIn", desc := "(II)I" } : Jvm.MethodName) prog_10_method_22_code (3 : Nat) (Option.some Jvm.ClassFile.FieldType.int)) ∈ lw_all := lw_g (lw_at lw_m9 71 rfl) rfl
theorem q2110 : (Jvm.Cond.methodLink "EdgeLettersModel" (188 : Nat) ({ cls := "EdgeLettersModel", name := "allLines", desc := "()I" } : Jvm.MethodName)) ∈ lw_all := lw_g (lw_at lw_m9 72 rfl) rfl
theorem q2111 : (Jvm.Cond.privateMethod ({ cls := "EdgeLettersModel", name := "allLines", desc := "()I" } : Jvm.MethodName)) ∈ lw_tbl := lw_at lw_m9 73 rfl
theorem q2112 : (Jvm.Cond.instanceMethod ({ cls := "EdgeLettersModel", name := "allLines", desc := "()I" } : Jvm.MethodName)) ∈ lw_all := lw_g (lw_at lw_m9 74 rfl) rfl
theorem q2113 : (Jvm.Cond.code ({ cls := "EdgeLettersModel", name := "allLines", desc := "()I" } : Jvm.MethodName) prog_10_method_46_code (1 : Nat) (Option.some Jvm.ClassFile.FieldType.int)) ∈ lw_all := lw_g (lw_at lw_m9 75 rfl) rfl
theorem q2114 : (Jvm.Cond.methodLink "EdgeLettersModel" (170 : Nat) ({ cls := "EdgeLettersModel", name := "breaks", desc := "(IIII)Z" } : Jvm.MethodName)) ∈ lw_all := lw_g (lw_at lw_m9 76 rfl) rfl
theorem q2115 : (Jvm.Cond.privateMethod ({ cls := "EdgeLettersModel", name := "breaks", desc := "(IIII)Z" } : Jvm.MethodName)) ∈ lw_tbl := lw_at lw_m9 77 rfl
theorem q2116 : (Jvm.Cond.instanceMethod ({ cls := "EdgeLettersModel", name := "breaks", desc := "(IIII)Z" } : Jvm.MethodName)) ∈ lw_all := lw_g (lw_at lw_m9 78 rfl) rfl
theorem q2117 : (Jvm.Cond.code ({ cls := "EdgeLettersModel", name := "breaks", desc := "(IIII)Z" } : Jvm.MethodName) prog_10_method_45_code (5 : Nat) (Option.some Jvm.ClassFile.FieldType.boolean)) ∈ lw_all := lw_g (lw_at lw_m9 79 rfl) rfl
theorem q2118 : (Jvm.Cond.methodLink "EdgeLettersModel" (161 : Nat) ({ cls := "EdgeLettersModel", name := "layers", desc := "(II)V" } : Jvm.MethodName)) ∈ lw_all := lw_g (lw_at lw_m9 80 rfl) rfl
theorem q2119 : (Jvm.Cond.privateMethod ({ cls := "EdgeLettersModel", name := "layers", desc := "(II)V" } : Jvm.MethodName)) ∈ lw_tbl := lw_at lw_m9 81 rfl
theorem q2120 : (Jvm.Cond.instanceMethod ({ cls := "EdgeLettersModel", name := "layers", desc := "(II)V" } : Jvm.MethodName)) ∈ lw_all := lw_g (lw_at lw_m9 82 rfl) rfl
theorem q2121 : (Jvm.Cond.code ({ cls := "EdgeLettersModel", name := "layers", desc := "(II)V" } : Jvm.MethodName) prog_10_method_34_code (4 : Nat) (Option.none : Option Jvm.ClassFile.FieldType)) ∈ lw_all := lw_g (lw_at lw_m9 83 rfl) rfl
theorem q2122 : (Jvm.Cond.methodLink "EdgeLettersModel" (164 : Nat) ({ cls := "EdgeLettersModel", name := "closes", desc := "(II)Z" } : Jvm.MethodName)) ∈ lw_all := lw_g (lw_at lw_m9 84 rfl) rfl
theorem q2123 : (Jvm.Cond.privateMethod ({ cls := "EdgeLettersModel", name := "closes", desc := "(II)Z" } : Jvm.MethodName)) ∈ lw_tbl := lw_at lw_m9 85 rfl
theorem q2124 : (Jvm.Cond.instanceMethod ({ cls := "EdgeLettersModel", name := "closes", desc := "(II)Z" } : Jvm.MethodName)) ∈ lw_all := lw_g (lw_at lw_m9 86 rfl) rfl
theorem q2125 : (Jvm.Cond.code ({ cls := "EdgeLettersModel", name := "closes", desc := "(II)Z" } : Jvm.MethodName) prog_10_method_33_code (7 : Nat) (Option.some Jvm.ClassFile.FieldType.boolean)) ∈ lw_all := lw_g (lw_at lw_m9 87 rfl) rfl
theorem q2127 : (Jvm.Cond.instanceMethod ({ cls := "EdgeLettersModel", name := "nextStep", desc := "()I" } : Jvm.MethodName)) ∈ lw_all := lw_g (lw_at lw_m9 89 rfl) rfl
theorem q2128 : (Jvm.Cond.selects "EdgeLettersModel" ({ cls := "EdgeLettersModel", name := "nextStep", desc := "()I" } : Jvm.MethodName) ({ cls := "EdgeLettersModel", name := "nextStep", desc := "()I" } : Jvm.MethodName)) ∈ lw_all := lw_g (lw_at lw_m9 90 rfl) rfl
theorem q2129 : (Jvm.Cond.code ({ cls := "EdgeLettersModel", name := "nextStep", desc := "()I" } : Jvm.MethodName) prog_10_method_95_code (1 : Nat) (Option.some Jvm.ClassFile.FieldType.int)) ∈ lw_all := lw_g (lw_at lw_m9 91 rfl) rfl
theorem q2130 : (Jvm.Cond.methodLink "EdgeLettersModel" (173 : Nat) ({ cls := "EdgeLettersModel", name := "next", desc := "(II)I" } : Jvm.MethodName)) ∈ lw_all := lw_g (lw_at lw_m9 92 rfl) rfl
theorem q2131 : (Jvm.Cond.privateMethod ({ cls := "EdgeLettersModel", name := "next", desc := "(II)I" } : Jvm.MethodName)) ∈ lw_tbl := lw_at lw_m9 93 rfl
theorem q2132 : (Jvm.Cond.instanceMethod ({ cls := "EdgeLettersModel", name := "next", desc := "(II)I" } : Jvm.MethodName)) ∈ lw_all := lw_g (lw_at lw_m9 94 rfl) rfl
theorem q2133 : (Jvm.Cond.code ({ cls := "EdgeLettersModel", name := "next", desc := "(II)I" } : Jvm.MethodName) prog_10_method_47_code (7 : Nat) (Option.some Jvm.ClassFile.FieldType.int)) ∈ lw_all := lw_g (lw_at lw_m9 95 rfl) rfl
theorem q2135 : (Jvm.Cond.instanceMethod ({ cls := "EdgeLettersModel", name := "step", desc := "()I" } : Jvm.MethodName)) ∈ lw_all := lw_g (lw_at lw_m9 97 rfl) rfl
theorem q2136 : (Jvm.Cond.selects "EdgeLettersModel" ({ cls := "EdgeLettersModel", name := "step", desc := "()I" } : Jvm.MethodName) ({ cls := "EdgeLettersModel", name := "step", desc := "()I" } : Jvm.MethodName)) ∈ lw_all := lw_g (lw_at lw_m9 98 rfl) rfl
theorem q2137 : (Jvm.Cond.code ({ cls := "EdgeLettersModel", name := "step", desc := "()I" } : Jvm.MethodName) prog_10_method_96_code (2 : Nat) (Option.some Jvm.ClassFile.FieldType.int)) ∈ lw_all := lw_g (lw_at lw_m9 99 rfl) rfl
theorem q2139 : (Jvm.Cond.instanceMethod ({ cls := "EdgeLettersModel", name := "stepAll", desc := "(I)I" } : Jvm.MethodName)) ∈ lw_all := lw_g (lw_at lw_m9 101 rfl) rfl
theorem q2140 : (Jvm.Cond.selects "EdgeLettersModel" ({ cls := "EdgeLettersModel", name := "stepAll", desc := "(I)I" } : Jvm.MethodName) ({ cls := "EdgeLettersModel", name := "stepAll", desc := "(I)I" } : Jvm.MethodName)) ∈ lw_all := lw_g (lw_at lw_m9 102 rfl) rfl
theorem q2141 : (Jvm.Cond.code ({ cls := "EdgeLettersModel", name := "stepAll", desc := "(I)I" } : Jvm.MethodName) prog_10_method_97_code (4 : Nat) (Option.some Jvm.ClassFile.FieldType.int)) ∈ lw_all := lw_g (lw_at lw_m9 103 rfl) rfl
theorem q2142 : (Jvm.Cond.methodLink "EdgeLettersModel" (272 : Nat) ({ cls := "EdgeLettersModel", name := "steps", desc := "(I)I" } : Jvm.MethodName)) ∈ lw_all := lw_g (lw_at lw_m9 104 rfl) rfl
theorem q2143 : (Jvm.Cond.privateMethod ({ cls := "EdgeLettersModel", name := "steps", desc := "(I)I" } : Jvm.MethodName)) ∈ lw_tbl := lw_at lw_m9 105 rfl
theorem q2144 : (Jvm.Cond.instanceMethod ({ cls := "EdgeLettersModel", name := "steps", desc := "(I)I" } : Jvm.MethodName)) ∈ lw_all := lw_g (lw_at lw_m9 106 rfl) rfl
theorem q2145 : (Jvm.Cond.code ({ cls := "EdgeLettersModel", name := "steps", desc := "(I)I" } : Jvm.MethodName) prog_10_method_49_code (4 : Nat) (Option.some Jvm.ClassFile.FieldType.int)) ∈ lw_all := lw_g (lw_at lw_m9 107 rfl) rfl
theorem q2146 : (Jvm.Cond.methodLink "EdgeLettersModel" (176 : Nat) ({ cls := "EdgeLettersModel", name := "crosses", desc := "(II)V" } : Jvm.MethodName)) ∈ lw_all := lw_g (lw_at lw_m9 108 rfl) rfl
theorem q2147 : (Jvm.Cond.privateMethod ({ cls := "EdgeLettersModel", name := "crosses", desc := "(II)V" } : Jvm.MethodName)) ∈ lw_tbl := lw_at lw_m9 109 rfl
theorem q2148 : (Jvm.Cond.instanceMethod ({ cls := "EdgeLettersModel", name := "crosses", desc := "(II)V" } : Jvm.MethodName)) ∈ lw_all := lw_g (lw_at lw_m9 110 rfl) rfl
theorem q2149 : (Jvm.Cond.code ({ cls := "EdgeLettersModel", name := "crosses", desc := "(II)V" } : Jvm.MethodName) prog_10_method_48_code (3 : Nat) (Option.none : Option Jvm.ClassFile.FieldType)) ∈ lw_all := lw_g (lw_at lw_m9 111 rfl) rfl
theorem q2151 : (Jvm.Cond.instanceMethod ({ cls := "EdgeLettersModel", name := "stepsUpTo", desc := "(I)I" } : Jvm.MethodName)) ∈ lw_all := lw_g (lw_at lw_m9 113 rfl) rfl
theorem q2152 : (Jvm.Cond.selects "EdgeLettersModel" ({ cls := "EdgeLettersModel", name := "stepsUpTo", desc := "(I)I" } : Jvm.MethodName) ({ cls := "EdgeLettersModel", name := "stepsUpTo", desc := "(I)I" } : Jvm.MethodName)) ∈ lw_all := lw_g (lw_at lw_m9 114 rfl) rfl
theorem q2153 : (Jvm.Cond.code ({ cls := "EdgeLettersModel", name := "stepsUpTo", desc := "(I)I" } : Jvm.MethodName) prog_10_method_98_code (2 : Nat) (Option.some Jvm.ClassFile.FieldType.int)) ∈ lw_all := lw_g (lw_at lw_m9 115 rfl) rfl
theorem q2155 : (Jvm.Cond.instanceMethod ({ cls := "EdgeLettersModel", name := "hardness", desc := "()I" } : Jvm.MethodName)) ∈ lw_all := lw_g (lw_at lw_m9 117 rfl) rfl
theorem q2156 : (Jvm.Cond.selects "EdgeLettersModel" ({ cls := "EdgeLettersModel", name := "hardness", desc := "()I" } : Jvm.MethodName) ({ cls := "EdgeLettersModel", name := "hardness", desc := "()I" } : Jvm.MethodName)) ∈ lw_all := lw_g (lw_at lw_m9 118 rfl) rfl
theorem q2157 : (Jvm.Cond.code ({ cls := "EdgeLettersModel", name := "hardness", desc := "()I" } : Jvm.MethodName) prog_10_method_99_code (3 : Nat) (Option.some Jvm.ClassFile.FieldType.int)) ∈ lw_all := lw_g (lw_at lw_m9 119 rfl) rfl
theorem q2159 : (Jvm.Cond.instanceMethod ({ cls := "EdgeLettersModel", name := "solutionCount", desc := "()I" } : Jvm.MethodName)) ∈ lw_all := lw_g (lw_at lw_m9 121 rfl) rfl
theorem q2160 : (Jvm.Cond.selects "EdgeLettersModel" ({ cls := "EdgeLettersModel", name := "solutionCount", desc := "()I" } : Jvm.MethodName) ({ cls := "EdgeLettersModel", name := "solutionCount", desc := "()I" } : Jvm.MethodName)) ∈ lw_all := lw_g (lw_at lw_m9 122 rfl) rfl
theorem q2161 : (Jvm.Cond.code ({ cls := "EdgeLettersModel", name := "solutionCount", desc := "()I" } : Jvm.MethodName) prog_10_method_100_code (1 : Nat) (Option.some Jvm.ClassFile.FieldType.int)) ∈ lw_all := lw_g (lw_at lw_m9 123 rfl) rfl
theorem q2162 : (Jvm.Cond.methodLink "EdgeLettersModel" (275 : Nat) ({ cls := "EdgeLettersModel", name := "solutions", desc := "(IZ)I" } : Jvm.MethodName)) ∈ lw_all := lw_g (lw_at lw_m9 124 rfl) rfl
theorem q2163 : (Jvm.Cond.privateMethod ({ cls := "EdgeLettersModel", name := "solutions", desc := "(IZ)I" } : Jvm.MethodName)) ∈ lw_tbl := lw_at lw_m9 125 rfl
theorem q2164 : (Jvm.Cond.instanceMethod ({ cls := "EdgeLettersModel", name := "solutions", desc := "(IZ)I" } : Jvm.MethodName)) ∈ lw_all := lw_g (lw_at lw_m9 126 rfl) rfl
theorem q2165 : (Jvm.Cond.code ({ cls := "EdgeLettersModel", name := "solutions", desc := "(IZ)I" } : Jvm.MethodName) prog_10_method_53_code (8 : Nat) (Option.some Jvm.ClassFile.FieldType.int)) ∈ lw_all := lw_g (lw_at lw_m9 127 rfl) rfl
theorem q2166 : (Jvm.Cond.methodLink "EdgeLettersModel" (191 : Nat) ({ cls := "EdgeLettersModel", name := "isDone", desc := "(I)Z" } : Jvm.MethodName)) ∈ lw_all := lw_g (lw_at lw_m9 128 rfl) rfl
theorem q2167 : (Jvm.Cond.privateMethod ({ cls := "EdgeLettersModel", name := "isDone", desc := "(I)Z" } : Jvm.MethodName)) ∈ lw_tbl := lw_at lw_m9 129 rfl
theorem q2168 : (Jvm.Cond.instanceMethod ({ cls := "EdgeLettersModel", name := "isDone", desc := "(I)Z" } : Jvm.MethodName)) ∈ lw_all := lw_g (lw_at lw_m9 130 rfl) rfl
theorem q2169 : (Jvm.Cond.code ({ cls := "EdgeLettersModel", name := "isDone", desc := "(I)Z" } : Jvm.MethodName) prog_10_method_50_code (4 : Nat) (Option.some Jvm.ClassFile.FieldType.boolean)) ∈ lw_all := lw_g (lw_at lw_m9 131 rfl) rfl
theorem q2170 : (Jvm.Cond.methodLink "EdgeLettersModel" (194 : Nat) ({ cls := "EdgeLettersModel", name := "finds", desc := "(II)V" } : Jvm.MethodName)) ∈ lw_all := lw_g (lw_at lw_m9 132 rfl) rfl
theorem q2171 : (Jvm.Cond.privateMethod ({ cls := "EdgeLettersModel", name := "finds", desc := "(II)V" } : Jvm.MethodName)) ∈ lw_tbl := lw_at lw_m9 133 rfl
theorem q2172 : (Jvm.Cond.instanceMethod ({ cls := "EdgeLettersModel", name := "finds", desc := "(II)V" } : Jvm.MethodName)) ∈ lw_all := lw_g (lw_at lw_m9 134 rfl) rfl
theorem q2173 : (Jvm.Cond.code ({ cls := "EdgeLettersModel", name := "finds", desc := "(II)V" } : Jvm.MethodName) prog_10_method_52_code (5 : Nat) (Option.none : Option Jvm.ClassFile.FieldType)) ∈ lw_all := lw_g (lw_at lw_m9 135 rfl) rfl
theorem q2174 : (Jvm.Cond.constantLong "EdgeLettersModel" (186 : Nat) (-1 : Int64)) ∈ lw_all := lw_g (lw_at lw_m9 136 rfl) rfl
theorem q2175 : (Jvm.Cond.methodLink "EdgeLettersModel" (197 : Nat) ({ cls := "EdgeLettersModel", name := "guess", desc := "(IZ)I" } : Jvm.MethodName)) ∈ lw_all := lw_g (lw_at lw_m9 137 rfl) rfl
theorem q2176 : (Jvm.Cond.privateMethod ({ cls := "EdgeLettersModel", name := "guess", desc := "(IZ)I" } : Jvm.MethodName)) ∈ lw_tbl := lw_at lw_m9 138 rfl
theorem q2177 : (Jvm.Cond.instanceMethod ({ cls := "EdgeLettersModel", name := "guess", desc := "(IZ)I" } : Jvm.MethodName)) ∈ lw_all := lw_g (lw_at lw_m9 139 rfl) rfl
theorem q2178 : (Jvm.Cond.code ({ cls := "EdgeLettersModel", name := "guess", desc := "(IZ)I" } : Jvm.MethodName) prog_10_method_51_code (6 : Nat) (Option.some Jvm.ClassFile.FieldType.int)) ∈ lw_all := lw_g (lw_at lw_m9 140 rfl) rfl
theorem q2180 : (Jvm.Cond.instanceMethod ({ cls := "EdgeLettersModel", name := "solutionCountByRows", desc := "()I" } : Jvm.MethodName)) ∈ lw_all := lw_g (lw_at lw_m9 142 rfl) rfl
theorem q2181 : (Jvm.Cond.selects "EdgeLettersModel" ({ cls := "EdgeLettersModel", name := "solutionCountByRows", desc := "()I" } : Jvm.MethodName) ({ cls := "EdgeLettersModel", name := "solutionCountByRows", desc := "()I" } : Jvm.MethodName)) ∈ lw_all := lw_g (lw_at lw_m9 143 rfl) rfl
theorem q2182 : (Jvm.Cond.code ({ cls := "EdgeLettersModel", name := "solutionCountByRows", desc := "()I" } : Jvm.MethodName) prog_10_method_101_code (1 : Nat) (Option.some Jvm.ClassFile.FieldType.int)) ∈ lw_all := lw_g (lw_at lw_m9 144 rfl) rfl
theorem q2183 : (Jvm.Cond.methodLink "EdgeLettersModel" (278 : Nat) ({ cls := "EdgeLettersModel", name := "solutionsByRows", desc := "()I" } : Jvm.MethodName)) ∈ lw_all := lw_g (lw_at lw_m9 145 rfl) rfl
theorem q2184 : (Jvm.Cond.privateMethod ({ cls := "EdgeLettersModel", name := "solutionsByRows", desc := "()I" } : Jvm.MethodName)) ∈ lw_tbl := lw_at lw_m9 146 rfl
theorem q2185 : (Jvm.Cond.instanceMethod ({ cls := "EdgeLettersModel", name := "solutionsByRows", desc := "()I" } : Jvm.MethodName)) ∈ lw_all := lw_g (lw_at lw_m9 147 rfl) rfl
theorem q2186 : (Jvm.Cond.code ({ cls := "EdgeLettersModel", name := "solutionsByRows", desc := "()I" } : Jvm.MethodName) prog_10_method_57_code (4 : Nat) (Option.some Jvm.ClassFile.FieldType.int)) ∈ lw_all := lw_g (lw_at lw_m9 148 rfl) rfl
theorem q2187 : (Jvm.Cond.methodLink "EdgeLettersModel" (207 : Nat) ({ cls := "EdgeLettersModel", name := "stands", desc := "(II)Z" } : Jvm.MethodName)) ∈ lw_all := lw_g (lw_at lw_m9 149 rfl) rfl
theorem q2188 : (Jvm.Cond.privateMethod ({ cls := "EdgeLettersModel", name := "stands", desc := "(II)Z" } : Jvm.MethodName)) ∈ lw_tbl := lw_at lw_m9 150 rfl
theorem q2189 : (Jvm.Cond.instanceMethod ({ cls := "EdgeLettersModel", name := "stands", desc := "(II)Z" } : Jvm.MethodName)) ∈ lw_all := lw_g (lw_at lw_m9 151 rfl) rfl
theorem q2190 : (Jvm.Cond.code ({ cls := "EdgeLettersModel", name := "stands", desc := "(II)Z" } : Jvm.MethodName) prog_10_method_54_code (9 : Nat) (Option.some Jvm.ClassFile.FieldType.boolean)) ∈ lw_all := lw_g (lw_at lw_m9 152 rfl) rfl
theorem q2191 : (Jvm.Cond.methodLink "EdgeLettersModel" (203 : Nat) ({ cls := "EdgeLettersModel", name := "standsAslant", desc := "(IIZ)Z" } : Jvm.MethodName)) ∈ lw_all := lw_g (lw_at lw_m9 153 rfl) rfl
theorem q2192 : (Jvm.Cond.privateMethod ({ cls := "EdgeLettersModel", name := "standsAslant", desc := "(IIZ)Z" } : Jvm.MethodName)) ∈ lw_tbl := lw_at lw_m9 154 rfl
theorem q2193 : (Jvm.Cond.instanceMethod ({ cls := "EdgeLettersModel", name := "standsAslant", desc := "(IIZ)Z" } : Jvm.MethodName)) ∈ lw_all := lw_g (lw_at lw_m9 155 rfl) rfl
theorem q2194 : (Jvm.Cond.code ({ cls := "EdgeLettersModel", name := "standsAslant", desc := "(IIZ)Z" } : Jvm.MethodName) prog_10_method_56_code (10 : Nat) (Option.some Jvm.ClassFile.FieldType.boolean)) ∈ lw_all := lw_g (lw_at lw_m9 156 rfl) rfl
theorem q2196 : (Jvm.Cond.instanceMethod ({ cls := "EdgeLettersModel", name := "firstThing", desc := "(I)I" } : Jvm.MethodName)) ∈ lw_all := lw_g (lw_at lw_m9 158 rfl) rfl
theorem q2197 : (Jvm.Cond.selects "EdgeLettersModel" ({ cls := "EdgeLettersModel", name := "firstThing", desc := "(I)I" } : Jvm.MethodName) ({ cls := "EdgeLettersModel", name := "firstThing", desc := "(I)I" } : Jvm.MethodName)) ∈ lw_all := lw_g (lw_at lw_m9 159 rfl) rfl
theorem q2198 : (Jvm.Cond.code ({ cls := "EdgeLettersModel", name := "firstThing", desc := "(I)I" } : Jvm.MethodName) prog_10_method_102_code (2 : Nat) (Option.some Jvm.ClassFile.FieldType.int)) ∈ lw_all := lw_g (lw_at lw_m9 160 rfl) rfl
theorem q2200 : (Jvm.Cond.instanceMethod ({ cls := "EdgeLettersModel", name := "sameInAll", desc := "()J" } : Jvm.MethodName)) ∈ lw_all := lw_g (lw_at lw_m9 162 rfl) rfl
theorem q2201 : (Jvm.Cond.selects "EdgeLettersModel" ({ cls := "EdgeLettersModel", name := "sameInAll", desc := "()J" } : Jvm.MethodName) ({ cls := "EdgeLettersModel", name := "sameInAll", desc := "()J" } : Jvm.MethodName)) ∈ lw_all := lw_g (lw_at lw_m9 163 rfl) rfl
theorem q2202 : (Jvm.Cond.code ({ cls := "EdgeLettersModel", name := "sameInAll", desc := "()J" } : Jvm.MethodName) prog_10_method_103_code (2 : Nat) (Option.some Jvm.ClassFile.FieldType.long)) ∈ lw_all := lw_g (lw_at lw_m9 164 rfl) rfl
theorem q2204 : (Jvm.Cond.instanceMethod ({ cls := "EdgeLettersModel", name := "isNeeded", desc := "(I)Z" } : Jvm.MethodName)) ∈ lw_all := lw_g (lw_at lw_m9 166 rfl) rfl
theorem q2205 : (Jvm.Cond.selects "EdgeLettersModel" ({ cls := "EdgeLettersModel", name := "isNeeded", desc := "(I)Z" } : Jvm.MethodName) ({ cls := "EdgeLettersModel", name := "isNeeded", desc := "(I)Z" } : Jvm.MethodName)) ∈ lw_all := lw_g (lw_at lw_m9 167 rfl) rfl
theorem q2206 : (Jvm.Cond.code ({ cls := "EdgeLettersModel", name := "isNeeded", desc := "(I)Z" } : Jvm.MethodName) prog_10_method_104_code (6 : Nat) (Option.some Jvm.ClassFile.FieldType.boolean)) ∈ lw_all := lw_g (lw_at lw_m9 168 rfl) rfl
theorem q2208 : (Jvm.Cond.instanceMethod ({ cls := "EdgeLettersModel", name := "crossedShare", desc := "()D" } : Jvm.MethodName)) ∈ lw_all := lw_g (lw_at lw_m9 170 rfl) rfl
theorem q2209 : (Jvm.Cond.selects "EdgeLettersModel" ({ cls := "EdgeLettersModel", name := "crossedShare", desc := "()D" } : Jvm.MethodName) ({ cls := "EdgeLettersModel", name := "crossedShare", desc := "()D" } : Jvm.MethodName)) ∈ lw_all := lw_g (lw_at lw_m9 171 rfl) rfl
theorem q2210 : (Jvm.Cond.code ({ cls := "EdgeLettersModel", name := "crossedShare", desc := "()D" } : Jvm.MethodName) prog_10_method_105_code (4 : Nat) (Option.some Jvm.ClassFile.FieldType.double)) ∈ lw_all := lw_g (lw_at lw_m9 172 rfl) rfl
theorem q2212 : (Jvm.Cond.instanceMethod ({ cls := "EdgeLettersModel", name := "appendText", desc := "(J)I" } : Jvm.MethodName)) ∈ lw_all := lw_g (lw_at lw_m9 174 rfl) rfl
theorem q2213 : (Jvm.Cond.selects "EdgeLettersModel" ({ cls := "EdgeLettersModel", name := "appendText", desc := "(J)I" } : Jvm.MethodName) ({ cls := "EdgeLettersModel", name := "appendText", desc := "(J)I" } : Jvm.MethodName)) ∈ lw_all := lw_g (lw_at lw_m9 175 rfl) rfl
theorem q2214 : (Jvm.Cond.code ({ cls := "EdgeLettersModel", name := "appendText", desc := "(J)I" } : Jvm.MethodName) prog_10_method_107_code (5 : Nat) (Option.some Jvm.ClassFile.FieldType.int)) ∈ lw_all := lw_g (lw_at lw_m9 176 rfl) rfl
theorem q2215 : (Jvm.Cond.methodLink "EdgeLettersModel" (283 : Nat) ({ cls := "EdgeLettersModel", name := "characters", desc := "(J)I" } : Jvm.MethodName)) ∈ lw_all := lw_g (lw_at lw_m9 177 rfl) rfl
theorem q2216 : (Jvm.Cond.static ({ cls := "EdgeLettersModel", name := "characters", desc := "(J)I" } : Jvm.MethodName)) ∈ lw_all := lw_g (lw_at lw_m9 178 rfl) rfl
theorem q2217 : (Jvm.Cond.code ({ cls := "EdgeLettersModel", name := "characters", desc := "(J)I" } : Jvm.MethodName) prog_10_method_106_code (6 : Nat) (Option.some Jvm.ClassFile.FieldType.int)) ∈ lw_all := lw_g (lw_at lw_m9 179 rfl) rfl
theorem q2218 : (Jvm.Cond.constantLong "EdgeLettersModel" (281 : Nat) (255 : Int64)) ∈ lw_all := lw_g (lw_at lw_m9 180 rfl) rfl
theorem q2220 : (Jvm.Cond.instanceMethod ({ cls := "EdgeLettersModel", name := "clearText", desc := "()I" } : Jvm.MethodName)) ∈ lw_all := lw_g (lw_at lw_m9 182 rfl) rfl
theorem q2221 : (Jvm.Cond.selects "EdgeLettersModel" ({ cls := "EdgeLettersModel", name := "clearText", desc := "()I" } : Jvm.MethodName) ({ cls := "EdgeLettersModel", name := "clearText", desc := "()I" } : Jvm.MethodName)) ∈ lw_all := lw_g (lw_at lw_m9 183 rfl) rfl
theorem q2222 : (Jvm.Cond.code ({ cls := "EdgeLettersModel", name := "clearText", desc := "()I" } : Jvm.MethodName) prog_10_method_108_code (2 : Nat) (Option.some Jvm.ClassFile.FieldType.int)) ∈ lw_all := lw_g (lw_at lw_m9 184 rfl) rfl
theorem q2224 : (Jvm.Cond.instanceMethod ({ cls := "EdgeLettersModel", name := "textLength", desc := "()I" } : Jvm.MethodName)) ∈ lw_all := lw_g (lw_at lw_m9 186 rfl) rfl
theorem q2225 : (Jvm.Cond.selects "EdgeLettersModel" ({ cls := "EdgeLettersModel", name := "textLength", desc := "()I" } : Jvm.MethodName) ({ cls := "EdgeLettersModel", name := "textLength", desc := "()I" } : Jvm.MethodName)) ∈ lw_all := lw_g (lw_at lw_m9 187 rfl) rfl
theorem q2226 : (Jvm.Cond.code ({ cls := "EdgeLettersModel", name := "textLength", desc := "()I" } : Jvm.MethodName) prog_10_method_109_code (1 : Nat) (Option.some Jvm.ClassFile.FieldType.int)) ∈ lw_all := lw_g (lw_at lw_m9 188 rfl) rfl
theorem q2228 : (Jvm.Cond.instanceMethod ({ cls := "EdgeLettersModel", name := "textError", desc := "()I" } : Jvm.MethodName)) ∈ lw_all := lw_g (lw_at lw_m9 190 rfl) rfl
theorem q2229 : (Jvm.Cond.selects "EdgeLettersModel" ({ cls := "EdgeLettersModel", name := "textError", desc := "()I" } : Jvm.MethodName) ({ cls := "EdgeLettersModel", name := "textError", desc := "()I" } : Jvm.MethodName)) ∈ lw_all := lw_g (lw_at lw_m9 191 rfl) rfl
theorem q2230 : (Jvm.Cond.code ({ cls := "EdgeLettersModel", name := "textError", desc := "()I" } : Jvm.MethodName) prog_10_method_117_code (1 : Nat) (Option.some Jvm.ClassFile.FieldType.int)) ∈ lw_all := lw_g (lw_at lw_m9 192 rfl) rfl
theorem q2231 : (Jvm.Cond.methodLink "EdgeLettersModel" (322 : Nat) ({ cls := "EdgeLettersModel", name := "error", desc := "()I" } : Jvm.MethodName)) ∈ lw_all := lw_g (lw_at lw_m9 193 rfl) rfl
theorem q2232 : (Jvm.Cond.privateMethod ({ cls := "EdgeLettersModel", name := "error", desc := "()I" } : Jvm.MethodName)) ∈ lw_tbl := lw_at lw_m9 194 rfl
theorem q2233 : (Jvm.Cond.instanceMethod ({ cls := "EdgeLettersModel", name := "error", desc := "()I" } : Jvm.MethodName)) ∈ lw_all := lw_g (lw_at lw_m9 195 rfl) rfl
theorem q2234 : (Jvm.Cond.code ({ cls := "EdgeLettersModel", name := "error", desc := "()I" } : Jvm.MethodName) prog_10_method_116_code (1 : Nat) (Option.some Jvm.ClassFile.FieldType.int)) ∈ lw_all := lw_g (lw_at lw_m9 196 rfl) rfl
theorem q2235 : (Jvm.Cond.methodLink "EdgeLettersModel" (319 : Nat) ({ cls := "EdgeLettersModel", name := "readsCommand", desc := "()Z" } : Jvm.MethodName)) ∈ lw_all := lw_g (lw_at lw_m9 197 rfl) rfl
theorem q2236 : (Jvm.Cond.privateMethod ({ cls := "EdgeLettersModel", name := "readsCommand", desc := "()Z" } : Jvm.MethodName)) ∈ lw_tbl := lw_at lw_m9 198 rfl
theorem q2237 : (Jvm.Cond.instanceMethod ({ cls := "EdgeLettersModel", name := "readsCommand", desc := "()Z" } : Jvm.MethodName)) ∈ lw_all := lw_g (lw_at lw_m9 199 rfl) rfl
theorem q2238 : (Jvm.Cond.code ({ cls := "EdgeLettersModel", name := "readsCommand", desc := "()Z" } : Jvm.MethodName) prog_10_method_115_code (1 : Nat) (Option.some Jvm.ClassFile.FieldType.boolean)) ∈ lw_all := lw_g (lw_at lw_m9 200 rfl) rfl
theorem q2239 : (Jvm.Cond.methodLink "EdgeLettersModel" (313 : Nat) ({ cls := "EdgeLettersModel", name := "readsNumber", desc := "()Z" } : Jvm.MethodName)) ∈ lw_all := lw_g (lw_at lw_m9 201 rfl) rfl
theorem q2240 : (Jvm.Cond.privateMethod ({ cls := "EdgeLettersModel", name := "readsNumber", desc := "()Z" } : Jvm.MethodName)) ∈ lw_tbl := lw_at lw_m9 202 rfl
theorem q2241 : (Jvm.Cond.instanceMethod ({ cls := "EdgeLettersModel", name := "readsNumber", desc := "()Z" } : Jvm.MethodName)) ∈ lw_all := lw_g (lw_at lw_m9 203 rfl) rfl
theorem q2242 : (Jvm.Cond.code ({ cls := "EdgeLettersModel", name := "readsNumber", desc := "()Z" } : Jvm.MethodName) prog_10_method_112_code (1 : Nat) (Option.some Jvm.ClassFile.FieldType.boolean)) ∈ lw_all := lw_g (lw_at lw_m9 204 rfl) rfl
theorem q2243 : (Jvm.Cond.methodLink "EdgeLettersModel" (293 : Nat) ({ cls := "EdgeLettersModel", name := "isDigit", desc := "()Z" } : Jvm.MethodName)) ∈ lw_all := lw_g (lw_at lw_m9 205 rfl) rfl
theorem q2244 : (Jvm.Cond.privateMethod ({ cls := "EdgeLettersModel", name := "isDigit", desc := "()Z" } : Jvm.MethodName)) ∈ lw_tbl := lw_at lw_m9 206 rfl
theorem q2245 : (Jvm.Cond.instanceMethod ({ cls := "EdgeLettersModel", name := "isDigit", desc := "()Z" } : Jvm.MethodName)) ∈ lw_all := lw_g (lw_at lw_m9 207 rfl) rfl
theorem q2246 : (Jvm.Cond.code ({ cls := "EdgeLettersModel", name := "isDigit", desc := "()Z" } : Jvm.MethodName) prog_10_method_111_code (1 : Nat) (Option.some Jvm.ClassFile.FieldType.boolean)) ∈ lw_all := lw_g (lw_at lw_m9 208 rfl) rfl
theorem q2247 : (Jvm.Cond.methodLink "EdgeLettersModel" (306 : Nat) ({ cls := "EdgeLettersModel", name := "takes", desc := "(C)Z" } : Jvm.MethodName)) ∈ lw_all := lw_g (lw_at lw_m9 209 rfl) rfl
theorem q2248 : (Jvm.Cond.privateMethod ({ cls := "EdgeLettersModel", name := "takes", desc := "(C)Z" } : Jvm.MethodName)) ∈ lw_tbl := lw_at lw_m9 210 rfl
theorem q2249 : (Jvm.Cond.instanceMethod ({ cls := "EdgeLettersModel", name := "takes", desc := "(C)Z" } : Jvm.MethodName)) ∈ lw_all := lw_g (lw_at lw_m9 211 rfl) rfl
theorem q2250 : (Jvm.Cond.code ({ cls := "EdgeLettersModel", name := "takes", desc := "(C)Z" } : Jvm.MethodName) prog_10_method_110_code (3 : Nat) (Option.some Jvm.ClassFile.FieldType.boolean)) ∈ lw_all := lw_g (lw_at lw_m9 212 rfl) rfl
theorem q2251 : (Jvm.Cond.methodLink "EdgeLettersModel" (310 : Nat) ({ cls := "EdgeLettersModel", name := "readsLetter", desc := "(I)Z" } : Jvm.MethodName)) ∈ lw_all := lw_g (lw_at lw_m9 213 rfl) rfl
theorem q2252 : (Jvm.Cond.privateMethod ({ cls := "EdgeLettersModel", name := "readsLetter", desc := "(I)Z" } : Jvm.MethodName)) ∈ lw_tbl := lw_at lw_m9 214 rfl
theorem q2253 : (Jvm.Cond.instanceMethod ({ cls := "EdgeLettersModel", name := "readsLetter", desc := "(I)Z" } : Jvm.MethodName)) ∈ lw_all := lw_g (lw_at lw_m9 215 rfl) rfl
theorem q2254 : (Jvm.Cond.code ({ cls := "EdgeLettersModel", name := "readsLetter", desc := "(I)Z" } : Jvm.MethodName) prog_10_method_113_code (3 : Nat) (Option.some Jvm.ClassFile.FieldType.boolean)) ∈ lw_all := lw_g (lw_at lw_m9 216 rfl) rfl
theorem q2255 : (Jvm.Cond.methodLink "EdgeLettersModel" (316 : Nat) ({ cls := "EdgeLettersModel", name := "readsThing", desc := "(I)Z" } : Jvm.MethodName)) ∈ lw_all := lw_g (lw_at lw_m9 217 rfl) rfl
theorem q2256 : (Jvm.Cond.privateMethod ({ cls := "EdgeLettersModel", name := "readsThing", desc := "(I)Z" } : Jvm.MethodName)) ∈ lw_tbl := lw_at lw_m9 218 rfl
theorem q2257 : (Jvm.Cond.instanceMethod ({ cls := "EdgeLettersModel", name := "readsThing", desc := "(I)Z" } : Jvm.MethodName)) ∈ lw_all := lw_g (lw_at lw_m9 219 rfl) rfl
theorem q2258 : (Jvm.Cond.code ({ cls := "EdgeLettersModel", name := "readsThing", desc := "(I)Z" } : Jvm.MethodName) prog_10_method_114_code (2 : Nat) (Option.some Jvm.ClassFile.FieldType.boolean)) ∈ lw_all := lw_g (lw_at lw_m9 220 rfl) rfl
theorem q2260 : (Jvm.Cond.instanceMethod ({ cls := "EdgeLettersModel", name := "runText", desc := "()I" } : Jvm.MethodName)) ∈ lw_all := lw_g (lw_at lw_m9 222 rfl) rfl
theorem q2261 : (Jvm.Cond.selects "EdgeLettersModel" ({ cls := "EdgeLettersModel", name := "runText", desc := "()I" } : Jvm.MethodName) ({ cls := "EdgeLettersModel", name := "runText", desc := "()I" } : Jvm.MethodName)) ∈ lw_all := lw_g (lw_at lw_m9 223 rfl) rfl
theorem q2262 : (Jvm.Cond.code ({ cls := "EdgeLettersModel", name := "runText", desc := "()I" } : Jvm.MethodName) prog_10_method_121_code (4 : Nat) (Option.some Jvm.ClassFile.FieldType.int)) ∈ lw_all := lw_g (lw_at lw_m9 224 rfl) rfl
theorem q2263 : (Jvm.Cond.methodLink "EdgeLettersModel" (328 : Nat) ({ cls := "EdgeLettersModel", name := "can", desc := "()Z" } : Jvm.MethodName)) ∈ lw_all := lw_g (lw_at lw_m9 225 rfl) rfl
theorem q2264 : (Jvm.Cond.privateMethod ({ cls := "EdgeLettersModel", name := "can", desc := "()Z" } : Jvm.MethodName)) ∈ lw_tbl := lw_at lw_m9 226 rfl
theorem q2265 : (Jvm.Cond.instanceMethod ({ cls := "EdgeLettersModel", name := "can", desc := "()Z" } : Jvm.MethodName)) ∈ lw_all := lw_g (lw_at lw_m9 227 rfl) rfl
theorem q2266 : (Jvm.Cond.code ({ cls := "EdgeLettersModel", name := "can", desc := "()Z" } : Jvm.MethodName) prog_10_method_119_code (1 : Nat) (Option.some Jvm.ClassFile.FieldType.boolean)) ∈ lw_all := lw_g (lw_at lw_m9 228 rfl) rfl
theorem q2267 : (Jvm.Cond.methodLink "EdgeLettersModel" (325 : Nat) ({ cls := "EdgeLettersModel", name := "thing", desc := "()I" } : Jvm.MethodName)) ∈ lw_all := lw_g (lw_at lw_m9 229 rfl) rfl
theorem q2268 : (Jvm.Cond.privateMethod ({ cls := "EdgeLettersModel", name := "thing", desc := "()I" } : Jvm.MethodName)) ∈ lw_tbl := lw_at lw_m9 230 rfl
theorem q2269 : (Jvm.Cond.instanceMethod ({ cls := "EdgeLettersModel", name := "thing", desc := "()I" } : Jvm.MethodName)) ∈ lw_all := lw_g (lw_at lw_m9 231 rfl) rfl
theorem q2270 : (Jvm.Cond.code ({ cls := "EdgeLettersModel", name := "thing", desc := "()I" } : Jvm.MethodName) prog_10_method_118_code (1 : Nat) (Option.some Jvm.ClassFile.FieldType.int)) ∈ lw_all := lw_g (lw_at lw_m9 232 rfl) rfl
theorem q2271 : (Jvm.Cond.methodLink "EdgeLettersModel" (331 : Nat) ({ cls := "EdgeLettersModel", name := "does", desc := "()I" } : Jvm.MethodName)) ∈ lw_all := lw_g (lw_at lw_m9 233 rfl) rfl
theorem q2272 : (Jvm.Cond.privateMethod ({ cls := "EdgeLettersModel", name := "does", desc := "()I" } : Jvm.MethodName)) ∈ lw_tbl := lw_at lw_m9 234 rfl
theorem q2273 : (Jvm.Cond.instanceMethod ({ cls := "EdgeLettersModel", name := "does", desc := "()I" } : Jvm.MethodName)) ∈ lw_all := lw_g (lw_at lw_m9 235 rfl) rfl
theorem q2274 : (Jvm.Cond.code ({ cls := "EdgeLettersModel", name := "does", desc := "()I" } : Jvm.MethodName) prog_10_method_120_code (1 : Nat) (Option.some Jvm.ClassFile.FieldType.int)) ∈ lw_all := lw_g (lw_at lw_m9 236 rfl) rfl
theorem q2276 : (Jvm.Cond.instanceMethod ({ cls := "EdgeLettersModel", name := "undo", desc := "()I" } : Jvm.MethodName)) ∈ lw_all := lw_g (lw_at lw_m9 238 rfl) rfl
theorem q2277 : (Jvm.Cond.selects "EdgeLettersModel" ({ cls := "EdgeLettersModel", name := "undo", desc := "()I" } : Jvm.MethodName) ({ cls := "EdgeLettersModel", name := "undo", desc := "()I" } : Jvm.MethodName)) ∈ lw_all := lw_g (lw_at lw_m9 239 rfl) rfl
theorem q2278 : (Jvm.Cond.code ({ cls := "EdgeLettersModel", name := "undo", desc := "()I" } : Jvm.MethodName) prog_10_method_122_code (1 : Nat) (Option.some Jvm.ClassFile.FieldType.int)) ∈ lw_all := lw_g (lw_at lw_m10 0 rfl) rfl
theorem q2280 : (Jvm.Cond.instanceMethod ({ cls := "EdgeLettersModel", name := "undoCount", desc := "()I" } : Jvm.MethodName)) ∈ lw_all := lw_g (lw_at lw_m10 2 rfl) rfl
theorem q2281 : (Jvm.Cond.selects "EdgeLettersModel" ({ cls := "EdgeLettersModel", name := "undoCount", desc := "()I" } : Jvm.MethodName) ({ cls := "EdgeLettersModel", name := "undoCount", desc := "()I" } : Jvm.MethodName)) ∈ lw_all := lw_g (lw_at lw_m10 3 rfl) rfl
theorem q2282 : (Jvm.Cond.code ({ cls := "EdgeLettersModel", name := "undoCount", desc := "()I" } : Jvm.MethodName) prog_10_method_123_code (1 : Nat) (Option.some Jvm.ClassFile.FieldType.int)) ∈ lw_all := lw_g (lw_at lw_m10 4 rfl) rfl
theorem q2284 : (Jvm.Cond.instanceMethod ({ cls := "EdgeLettersModel", name := "saveState", desc := "(I)I" } : Jvm.MethodName)) ∈ lw_all := lw_g (lw_at lw_m10 6 rfl) rfl
theorem q2285 : (Jvm.Cond.selects "EdgeLettersModel" ({ cls := "EdgeLettersModel", name := "saveState", desc := "(I)I" } : Jvm.MethodName) ({ cls := "EdgeLettersModel", name := "saveState", desc := "(I)I" } : Jvm.MethodName)) ∈ lw_all := lw_g (lw_at lw_m10 7 rfl) rfl
theorem q2286 : (Jvm.Cond.code ({ cls := "EdgeLettersModel", name := "saveState", desc := "(I)I" } : Jvm.MethodName) prog_10_method_125_code (2 : Nat) (Option.some Jvm.ClassFile.FieldType.int)) ∈ lw_all := lw_g (lw_at lw_m10 8 rfl) rfl
theorem q2287 : (Jvm.Cond.methodLink "EdgeLettersModel" (334 : Nat) ({ cls := "EdgeLettersModel", name := "isASlot", desc := "(I)Z" } : Jvm.MethodName)) ∈ lw_all := lw_g (lw_at lw_m10 9 rfl) rfl
theorem q2288 : (Jvm.Cond.static ({ cls := "EdgeLettersModel", name := "isASlot", desc := "(I)Z" } : Jvm.MethodName)) ∈ lw_all := lw_g (lw_at lw_m10 10 rfl) rfl
theorem q2289 : (Jvm.Cond.code ({ cls := "EdgeLettersModel", name := "isASlot", desc := "(I)Z" } : Jvm.MethodName) prog_10_method_124_code (1 : Nat) (Option.some Jvm.ClassFile.FieldType.boolean)) ∈ lw_all := lw_g (lw_at lw_m10 11 rfl) rfl
theorem q2291 : (Jvm.Cond.instanceMethod ({ cls := "EdgeLettersModel", name := "loadState", desc := "(I)I" } : Jvm.MethodName)) ∈ lw_all := lw_g (lw_at lw_m10 13 rfl) rfl
theorem q2292 : (Jvm.Cond.selects "EdgeLettersModel" ({ cls := "EdgeLettersModel", name := "loadState", desc := "(I)I" } : Jvm.MethodName) ({ cls := "EdgeLettersModel", name := "loadState", desc := "(I)I" } : Jvm.MethodName)) ∈ lw_all := lw_g (lw_at lw_m10 14 rfl) rfl
theorem q2293 : (Jvm.Cond.code ({ cls := "EdgeLettersModel", name := "loadState", desc := "(I)I" } : Jvm.MethodName) prog_10_method_126_code (3 : Nat) (Option.some Jvm.ClassFile.FieldType.int)) ∈ lw_all := lw_g (lw_at lw_m10 15 rfl) rfl
theorem q2320 : (Jvm.Cond.castable "EdgeLettersModel" "java/lang/Object") ∈ lw_tbl := lw_at lw_m10 42 rfl
theorem in_X6 : ∀ w ∈ wsX60, w ∈ lw_all := lw_in wsX60 [1763, 1765, 1767, 1769, 1771, 1773, 1775, 1777, 1779, 1781, 1783, 1785, 1787, 1789, 1791, 1793, 1795, 1797, 1799, 1801, 1803, 1805, 1807, 1809] (by decide +kernel) (by decide +kernel)
