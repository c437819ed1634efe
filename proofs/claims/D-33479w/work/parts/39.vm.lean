/-! the methods, as the layer names them (printed by gen2.py) -/
set_option maxRecDepth 100000
abbrev mJ0_init : aM := (yJ0_init, cJ0_init, 1, none, [])
theorem nJ0_init : aNoMH yJ0_init 0 := by decide +kernel
theorem pJ0_init : plainFor yJ0_init = true := by decide +kernel
abbrev mJ1_init : aM := (yJ1_init, cJ1_init, 1, none, [])
theorem nJ1_init : aNoMH yJ1_init 0 := by decide +kernel
theorem pJ1_init : plainFor yJ1_init = true := by decide +kernel
abbrev mJ2_init : aM := (yJ2_init, cJ2_init, 1, none, [])
theorem nJ2_init : aNoMH yJ2_init 0 := by decide +kernel
theorem pJ2_init : plainFor yJ2_init = true := by decide +kernel
abbrev mJ4_max : aM := (yJ4_max, cJ4_max, 2, some Jvm.ClassFile.FieldType.int, [])
theorem nJ4_max : aNoMH yJ4_max 2 := by decide +kernel
theorem pJ4_max : plainFor yJ4_max = true := by decide +kernel
abbrev mJ4_min : aM := (yJ4_min, cJ4_min, 2, some Jvm.ClassFile.FieldType.int, [])
theorem nJ4_min : aNoMH yJ4_min 2 := by decide +kernel
theorem pJ4_min : plainFor yJ4_min = true := by decide +kernel
abbrev mJ3_newLength : aM := (yJ3_newLength, cJ3_newLength, 4, some Jvm.ClassFile.FieldType.int, [])
theorem nJ3_newLength : aNoMH yJ3_newLength 3 := by decide +kernel
theorem pJ3_newLength : plainFor yJ3_newLength = true := by decide +kernel
abbrev mJ5_copyOf_2 : aM := (yJ5_copyOf_2, cJ5_copyOf_2, 4, some ((Jvm.ClassFile.FieldType.array (Jvm.ClassFile.FieldType.object "java/lang/Object"))), [])
theorem nJ5_copyOf_2 : aNoMH yJ5_copyOf_2 3 := by decide +kernel
theorem pJ5_copyOf_2 : plainFor yJ5_copyOf_2 = true := by decide +kernel
abbrev mJ5_copyOf : aM := (yJ5_copyOf, cJ5_copyOf, 2, some ((Jvm.ClassFile.FieldType.array (Jvm.ClassFile.FieldType.object "java/lang/Object"))), [])
theorem nJ5_copyOf : aNoMH yJ5_copyOf 2 := by decide +kernel
theorem pJ5_copyOf : plainFor yJ5_copyOf = true := by decide +kernel
abbrev mJ2_grow_2 : aM := (yJ2_grow_2, cJ2_grow_2, 4, some ((Jvm.ClassFile.FieldType.array (Jvm.ClassFile.FieldType.object "java/lang/Object"))), [])
theorem nJ2_grow_2 : aNoMH yJ2_grow_2 1 := by decide +kernel
theorem pJ2_grow_2 : plainFor yJ2_grow_2 = true := by decide +kernel
abbrev mJ2_grow : aM := (yJ2_grow, cJ2_grow, 1, some ((Jvm.ClassFile.FieldType.array (Jvm.ClassFile.FieldType.object "java/lang/Object"))), [])
theorem nJ2_grow : aNoMH yJ2_grow 0 := by decide +kernel
theorem pJ2_grow : plainFor yJ2_grow = true := by decide +kernel
abbrev mJ2_add_2 : aM := (yJ2_add_2, cJ2_add_2, 4, none, [])
theorem nJ2_add_2 : aNoMH yJ2_add_2 3 := by decide +kernel
theorem pJ2_add_2 : plainFor yJ2_add_2 = true := by decide +kernel
abbrev mJ2_add : aM := (yJ2_add, cJ2_add, 2, some Jvm.ClassFile.FieldType.boolean, [])
theorem nJ2_add : aNoMH yJ2_add 1 := by decide +kernel
theorem pJ2_add : plainFor yJ2_add = true := by decide +kernel
abbrev mJ2_size : aM := (yJ2_size, cJ2_size, 1, some Jvm.ClassFile.FieldType.int, [])
theorem nJ2_size : aNoMH yJ2_size 0 := by decide +kernel
theorem pJ2_size : plainFor yJ2_size = true := by decide +kernel
abbrev mJ2_isEmpty : aM := (yJ2_isEmpty, cJ2_isEmpty, 1, some Jvm.ClassFile.FieldType.boolean, [])
theorem nJ2_isEmpty : aNoMH yJ2_isEmpty 0 := by decide +kernel
theorem pJ2_isEmpty : plainFor yJ2_isEmpty = true := by decide +kernel
abbrev mJ16_checkIndex : aM := (yJ16_checkIndex, cJ16_checkIndex, 3, some Jvm.ClassFile.FieldType.int, [])
theorem nJ16_checkIndex : aNoMH yJ16_checkIndex 3 := by decide +kernel
theorem pJ16_checkIndex : plainFor yJ16_checkIndex = true := by decide +kernel
abbrev mJ15_checkIndex : aM := (yJ15_checkIndex, cJ15_checkIndex, 2, some Jvm.ClassFile.FieldType.int, [])
theorem nJ15_checkIndex : aNoMH yJ15_checkIndex 2 := by decide +kernel
theorem pJ15_checkIndex : plainFor yJ15_checkIndex = true := by decide +kernel
abbrev mJ2_elementData : aM := (yJ2_elementData, cJ2_elementData, 2, some ((Jvm.ClassFile.FieldType.object "java/lang/Object")), [])
theorem nJ2_elementData : aNoMH yJ2_elementData 1 := by decide +kernel
theorem pJ2_elementData : plainFor yJ2_elementData = true := by decide +kernel
abbrev mJ2_get : aM := (yJ2_get, cJ2_get, 2, some ((Jvm.ClassFile.FieldType.object "java/lang/Object")), [])
theorem nJ2_get : aNoMH yJ2_get 1 := by decide +kernel
theorem pJ2_get : plainFor yJ2_get = true := by decide +kernel
abbrev mJ2_fastRemove : aM := (yJ2_fastRemove, cJ2_fastRemove, 4, none, [])
theorem nJ2_fastRemove : aNoMH yJ2_fastRemove 2 := by decide +kernel
theorem pJ2_fastRemove : plainFor yJ2_fastRemove = true := by decide +kernel
abbrev mJ2_remove : aM := (yJ2_remove, cJ2_remove, 4, some ((Jvm.ClassFile.FieldType.object "java/lang/Object")), [])
theorem nJ2_remove : aNoMH yJ2_remove 1 := by decide +kernel
theorem pJ2_remove : plainFor yJ2_remove = true := by decide +kernel
abbrev mJ6_bitCount : aM := (yJ6_bitCount, cJ6_bitCount, 1, some Jvm.ClassFile.FieldType.int, [])
theorem nJ6_bitCount : aNoMH yJ6_bitCount 1 := by decide +kernel
theorem pJ6_bitCount : plainFor yJ6_bitCount = true := by decide +kernel
abbrev mJ6_numberOfTrailingZeros : aM := (yJ6_numberOfTrailingZeros, cJ6_numberOfTrailingZeros, 2, some Jvm.ClassFile.FieldType.int, [])
theorem nJ6_numberOfTrailingZeros : aNoMH yJ6_numberOfTrailingZeros 1 := by decide +kernel
theorem pJ6_numberOfTrailingZeros : plainFor yJ6_numberOfTrailingZeros = true := by decide +kernel
abbrev mJ6_lowestOneBit : aM := (yJ6_lowestOneBit, cJ6_lowestOneBit, 1, some Jvm.ClassFile.FieldType.int, [])
theorem nJ6_lowestOneBit : aNoMH yJ6_lowestOneBit 1 := by decide +kernel
theorem pJ6_lowestOneBit : plainFor yJ6_lowestOneBit = true := by decide +kernel
abbrev mJ5_copyOf_3 : aM := (yJ5_copyOf_3, cJ5_copyOf_3, 3, some ((Jvm.ClassFile.FieldType.array Jvm.ClassFile.FieldType.byte)), [])
theorem nJ5_copyOf_3 : aNoMH yJ5_copyOf_3 2 := by decide +kernel
theorem pJ5_copyOf_3 : plainFor yJ5_copyOf_3 = true := by decide +kernel
abbrev mJ7_init : aM := (yJ7_init, cJ7_init, 2, none, [])
theorem nJ7_init : aNoMH yJ7_init 1 := by decide +kernel
theorem pJ7_init : plainFor yJ7_init = true := by decide +kernel
abbrev mJ8_init : aM := (yJ8_init, cJ8_init, 1, none, [])
theorem nJ8_init : aNoMH yJ8_init 0 := by decide +kernel
theorem pJ8_init : plainFor yJ8_init = true := by decide +kernel
abbrev mJ7_length : aM := (yJ7_length, cJ7_length, 1, some Jvm.ClassFile.FieldType.int, [])
theorem nJ7_length : aNoMH yJ7_length 0 := by decide +kernel
theorem pJ7_length : plainFor yJ7_length = true := by decide +kernel
abbrev mJ8_length : aM := (yJ8_length, cJ8_length, 1, some Jvm.ClassFile.FieldType.int, [])
theorem nJ8_length : aNoMH yJ8_length 0 := by decide +kernel
theorem pJ8_length : plainFor yJ8_length = true := by decide +kernel
abbrev mJ7_newCapacity : aM := (yJ7_newCapacity, cJ7_newCapacity, 6, some Jvm.ClassFile.FieldType.int, [])
theorem nJ7_newCapacity : aNoMH yJ7_newCapacity 1 := by decide +kernel
theorem pJ7_newCapacity : plainFor yJ7_newCapacity = true := by decide +kernel
abbrev mJ7_ensureCapacityInternal : aM := (yJ7_ensureCapacityInternal, cJ7_ensureCapacityInternal, 3, none, [])
theorem nJ7_ensureCapacityInternal : aNoMH yJ7_ensureCapacityInternal 1 := by decide +kernel
theorem pJ7_ensureCapacityInternal : plainFor yJ7_ensureCapacityInternal = true := by decide +kernel
abbrev mJ7_isLatin1 : aM := (yJ7_isLatin1, cJ7_isLatin1, 1, some Jvm.ClassFile.FieldType.boolean, [])
theorem nJ7_isLatin1 : aNoMH yJ7_isLatin1 0 := by decide +kernel
theorem pJ7_isLatin1 : plainFor yJ7_isLatin1 = true := by decide +kernel
abbrev mJ20_canEncode : aM := (yJ20_canEncode, cJ20_canEncode, 1, some Jvm.ClassFile.FieldType.boolean, [])
theorem nJ20_canEncode : aNoMH yJ20_canEncode 1 := by decide +kernel
theorem pJ20_canEncode : plainFor yJ20_canEncode = true := by decide +kernel
abbrev mJ20_canEncode_2 : aM := (yJ20_canEncode_2, cJ20_canEncode_2, 1, some Jvm.ClassFile.FieldType.boolean, [])
theorem nJ20_canEncode_2 : aNoMH yJ20_canEncode_2 1 := by decide +kernel
theorem pJ20_canEncode_2 : plainFor yJ20_canEncode_2 = true := by decide +kernel
abbrev mJ7_append_3 : aM := (yJ7_append_3, cJ7_append_3, 2, some ((Jvm.ClassFile.FieldType.object "java/lang/AbstractStringBuilder")), [])
theorem nJ7_append_3 : aNoMH yJ7_append_3 1 := by decide +kernel
theorem pJ7_append_3 : plainFor yJ7_append_3 = true := by decide +kernel
abbrev mJ8_append_3 : aM := (yJ8_append_3, cJ8_append_3, 2, some ((Jvm.ClassFile.FieldType.object "java/lang/StringBuilder")), [])
theorem nJ8_append_3 : aNoMH yJ8_append_3 1 := by decide +kernel
theorem pJ8_append_3 : plainFor yJ8_append_3 = true := by decide +kernel
abbrev mJ9_checkIndex : aM := (yJ9_checkIndex, cJ9_checkIndex, 2, none, [])
theorem nJ9_checkIndex : aNoMH yJ9_checkIndex 2 := by decide +kernel
theorem pJ9_checkIndex : plainFor yJ9_checkIndex = true := by decide +kernel
abbrev mJ7_charAt : aM := (yJ7_charAt, cJ7_charAt, 5, some Jvm.ClassFile.FieldType.char, [])
theorem nJ7_charAt : aNoMH yJ7_charAt 1 := by decide +kernel
theorem pJ7_charAt : plainFor yJ7_charAt = true := by decide +kernel
abbrev mJ8_charAt : aM := (yJ8_charAt, cJ8_charAt, 2, some Jvm.ClassFile.FieldType.char, [])
theorem nJ8_charAt : aNoMH yJ8_charAt 1 := by decide +kernel
theorem pJ8_charAt : plainFor yJ8_charAt = true := by decide +kernel
abbrev mJ7_setLength : aM := (yJ7_setLength, cJ7_setLength, 2, none, [])
theorem nJ7_setLength : aNoMH yJ7_setLength 1 := by decide +kernel
theorem pJ7_setLength : plainFor yJ7_setLength = true := by decide +kernel
abbrev mJ8_setLength : aM := (yJ8_setLength, cJ8_setLength, 2, none, [])
theorem nJ8_setLength : aNoMH yJ8_setLength 1 := by decide +kernel
theorem pJ8_setLength : plainFor yJ8_setLength = true := by decide +kernel
abbrev mJ9_isLatin1 : aM := (yJ9_isLatin1, cJ9_isLatin1, 1, some Jvm.ClassFile.FieldType.boolean, [])
theorem nJ9_isLatin1 : aNoMH yJ9_isLatin1 0 := by decide +kernel
theorem pJ9_isLatin1 : plainFor yJ9_isLatin1 = true := by decide +kernel
abbrev mJ9_coder : aM := (yJ9_coder, cJ9_coder, 1, some Jvm.ClassFile.FieldType.byte, [])
theorem nJ9_coder : aNoMH yJ9_coder 0 := by decide +kernel
theorem pJ9_coder : plainFor yJ9_coder = true := by decide +kernel
abbrev mJ9_length : aM := (yJ9_length, cJ9_length, 1, some Jvm.ClassFile.FieldType.int, [])
theorem nJ9_length : aNoMH yJ9_length 0 := by decide +kernel
theorem pJ9_length : plainFor yJ9_length = true := by decide +kernel
abbrev mJ20_indexOfChar : aM := (yJ20_indexOfChar, cJ20_indexOfChar, 6, some Jvm.ClassFile.FieldType.int, [])
theorem nJ20_indexOfChar : aNoMH yJ20_indexOfChar 4 := by decide +kernel
theorem pJ20_indexOfChar : plainFor yJ20_indexOfChar = true := by decide +kernel
abbrev mJ20_indexOf : aM := (yJ20_indexOf, cJ20_indexOf, 4, some Jvm.ClassFile.FieldType.int, [])
theorem nJ20_indexOf : aNoMH yJ20_indexOf 4 := by decide +kernel
theorem pJ20_indexOf : plainFor yJ20_indexOf = true := by decide +kernel
abbrev mJ9_indexOf_2 : aM := (yJ9_indexOf_2, cJ9_indexOf_2, 3, some Jvm.ClassFile.FieldType.int, [])
theorem nJ9_indexOf_2 : aNoMH yJ9_indexOf_2 2 := by decide +kernel
theorem pJ9_indexOf_2 : plainFor yJ9_indexOf_2 = true := by decide +kernel
abbrev mJ9_indexOf : aM := (yJ9_indexOf, cJ9_indexOf, 2, some Jvm.ClassFile.FieldType.int, [])
theorem nJ9_indexOf : aNoMH yJ9_indexOf 1 := by decide +kernel
theorem pJ9_indexOf : plainFor yJ9_indexOf = true := by decide +kernel
abbrev mX4_make : aM := (yX4_make, cX4_make, 7, none, [])
theorem nX4_make : aNoMH yX4_make 3 := by decide +kernel
theorem pX4_make : plainFor yX4_make = true := plainFor_of_name (by decide +kernel)
abbrev mX4_init : aM := (yX4_init, cX4_init, 3, none, [])
theorem nX4_init : aNoMH yX4_init 2 := by decide +kernel
theorem pX4_init : plainFor yX4_init = true := plainFor_of_name (by decide +kernel)
abbrev mX3_lineCount : aM := (yX3_lineCount, cX3_lineCount, 1, some Jvm.ClassFile.FieldType.int, [])
theorem nX3_lineCount : aNoMH yX3_lineCount 0 := by decide +kernel
theorem pX3_lineCount : plainFor yX3_lineCount = true := plainFor_of_name (by decide +kernel)
abbrev mX3_cellOf : aM := (yX3_cellOf, cX3_cellOf, 3, some Jvm.ClassFile.FieldType.int, [])
theorem nX3_cellOf : aNoMH yX3_cellOf 2 := by decide +kernel
theorem pX3_cellOf : plainFor yX3_cellOf = true := plainFor_of_name (by decide +kernel)
abbrev mX3_prepare : aM := (yX3_prepare, cX3_prepare, 4, none, [])
theorem nX3_prepare : aNoMH yX3_prepare 0 := by decide +kernel
theorem pX3_prepare : plainFor yX3_prepare = true := plainFor_of_name (by decide +kernel)
abbrev mX3_begin : aM := (yX3_begin, cX3_begin, 4, none, [])
theorem nX3_begin : aNoMH yX3_begin 2 := by decide +kernel
theorem pX3_begin : plainFor yX3_begin = true := plainFor_of_name (by decide +kernel)
abbrev mX3_init : aM := (yX3_init, cX3_init, 1, none, [])
theorem nX3_init : aNoMH yX3_init 0 := by decide +kernel
theorem pX3_init : plainFor yX3_init = true := plainFor_of_name (by decide +kernel)
abbrev mX3_cellCount : aM := (yX3_cellCount, cX3_cellCount, 1, some Jvm.ClassFile.FieldType.int, [])
theorem nX3_cellCount : aNoMH yX3_cellCount 0 := by decide +kernel
theorem pX3_cellCount : plainFor yX3_cellCount = true := plainFor_of_name (by decide +kernel)
abbrev mX3_setAll : aM := (yX3_setAll, cX3_setAll, 2, none, [])
theorem nX3_setAll : aNoMH yX3_setAll 1 := by decide +kernel
theorem pX3_setAll : plainFor yX3_setAll = true := plainFor_of_name (by decide +kernel)
abbrev mX3_turnDiagonals : aM := (yX3_turnDiagonals, cX3_turnDiagonals, 1, none, [])
theorem nX3_turnDiagonals : aNoMH yX3_turnDiagonals 0 := by decide +kernel
theorem pX3_turnDiagonals : plainFor yX3_turnDiagonals = true := plainFor_of_name (by decide +kernel)
abbrev mX3_edgeCount : aM := (yX3_edgeCount, cX3_edgeCount, 1, some Jvm.ClassFile.FieldType.int, [])
theorem nX3_edgeCount : aNoMH yX3_edgeCount 0 := by decide +kernel
theorem pX3_edgeCount : plainFor yX3_edgeCount = true := plainFor_of_name (by decide +kernel)
abbrev mX3_lineAt : aM := (yX3_lineAt, cX3_lineAt, 3, some Jvm.ClassFile.FieldType.int, [])
theorem nX3_lineAt : aNoMH yX3_lineAt 1 := by decide +kernel
theorem pX3_lineAt : plainFor yX3_lineAt = true := plainFor_of_name (by decide +kernel)
abbrev mX3_looksBack : aM := (yX3_looksBack, cX3_looksBack, 2, some Jvm.ClassFile.FieldType.boolean, [])
theorem nX3_looksBack : aNoMH yX3_looksBack 1 := by decide +kernel
theorem pX3_looksBack : plainFor yX3_looksBack = true := plainFor_of_name (by decide +kernel)
abbrev mX3_tell : aM := (yX3_tell, cX3_tell, 5, some Jvm.ClassFile.FieldType.int, [])
theorem nX3_tell : aNoMH yX3_tell 3 := by decide +kernel
theorem pX3_tell : plainFor yX3_tell = true := plainFor_of_name (by decide +kernel)
abbrev mX3_told : aM := (yX3_told, cX3_told, 3, some Jvm.ClassFile.FieldType.int, [])
theorem nX3_told : aNoMH yX3_told 0 := by decide +kernel
theorem pX3_told : plainFor yX3_told = true := plainFor_of_name (by decide +kernel)
abbrev mX3_mirrored : aM := (yX3_mirrored, cX3_mirrored, 2, some Jvm.ClassFile.FieldType.int, [])
theorem nX3_mirrored : aNoMH yX3_mirrored 1 := by decide +kernel
theorem pX3_mirrored : plainFor yX3_mirrored = true := plainFor_of_name (by decide +kernel)
abbrev mX3_mirroredEdge : aM := (yX3_mirroredEdge, cX3_mirroredEdge, 2, some Jvm.ClassFile.FieldType.int, [])
theorem nX3_mirroredEdge : aNoMH yX3_mirroredEdge 1 := by decide +kernel
theorem pX3_mirroredEdge : plainFor yX3_mirroredEdge = true := plainFor_of_name (by decide +kernel)
abbrev mX4_count : aM := (yX4_count, cX4_count, 1, some Jvm.ClassFile.FieldType.int, [])
theorem nX4_count : aNoMH yX4_count 0 := by decide +kernel
theorem pX4_count : plainFor yX4_count = true := plainFor_of_name (by decide +kernel)
abbrev mX4_at : aM := (yX4_at, cX4_at, 2, some ((Jvm.ClassFile.FieldType.array Jvm.ClassFile.FieldType.int)), [])
theorem nX4_at : aNoMH yX4_at 1 := by decide +kernel
theorem pX4_at : plainFor yX4_at = true := plainFor_of_name (by decide +kernel)
abbrev mX3_edgeOf : aM := (yX3_edgeOf, cX3_edgeOf, 3, some Jvm.ClassFile.FieldType.int, [])
theorem nX3_edgeOf : aNoMH yX3_edgeOf 2 := by decide +kernel
theorem pX3_edgeOf : plainFor yX3_edgeOf = true := plainFor_of_name (by decide +kernel)
abbrev mX3_isTrueAt : aM := (yX3_isTrueAt, cX3_isTrueAt, 4, some Jvm.ClassFile.FieldType.boolean, [])
theorem nX3_isTrueAt : aNoMH yX3_isTrueAt 2 := by decide +kernel
theorem pX3_isTrueAt : plainFor yX3_isTrueAt = true := plainFor_of_name (by decide +kernel)
abbrev mX3_isTrue : aM := (yX3_isTrue, cX3_isTrue, 3, some Jvm.ClassFile.FieldType.boolean, [])
theorem nX3_isTrue : aNoMH yX3_isTrue 2 := by decide +kernel
theorem pX3_isTrue : plainFor yX3_isTrue = true := plainFor_of_name (by decide +kernel)
abbrev mX3_gaps : aM := (yX3_gaps, cX3_gaps, 1, some Jvm.ClassFile.FieldType.int, [])
theorem nX3_gaps : aNoMH yX3_gaps 0 := by decide +kernel
theorem pX3_gaps : plainFor yX3_gaps = true := plainFor_of_name (by decide +kernel)
abbrev mX8_init : aM := (yX8_init, cX8_init, 2, none, [])
theorem nX8_init : aNoMH yX8_init 1 := by decide +kernel
theorem pX8_init : plainFor yX8_init = true := plainFor_of_name (by decide +kernel)
abbrev mX8_add : aM := (yX8_add, cX8_add, 3, none, [])
theorem nX8_add : aNoMH yX8_add 1 := by decide +kernel
theorem pX8_add : plainFor yX8_add = true := plainFor_of_name (by decide +kernel)
abbrev mX3_exchanged : aM := (yX3_exchanged, cX3_exchanged, 4, some Jvm.ClassFile.FieldType.int, [])
theorem nX3_exchanged : aNoMH yX3_exchanged 3 := by decide +kernel
theorem pX3_exchanged : plainFor yX3_exchanged = true := plainFor_of_name (by decide +kernel)
abbrev mX3_exchange : aM := (yX3_exchange, cX3_exchange, 5, some Jvm.ClassFile.FieldType.int, [])
theorem nX3_exchange : aNoMH yX3_exchange 2 := by decide +kernel
theorem pX3_exchange : plainFor yX3_exchange = true := plainFor_of_name (by decide +kernel)
abbrev mX7_init : aM := (yX7_init, cX7_init, 2, none, [])
theorem nX7_init : aNoMH yX7_init 1 := by decide +kernel
theorem pX7_init : plainFor yX7_init = true := plainFor_of_name (by decide +kernel)
abbrev mX4_iterator : aM := (yX4_iterator, cX4_iterator, 1, some ((Jvm.ClassFile.FieldType.object "java/util/Iterator")), [])
theorem nX4_iterator : aNoMH yX4_iterator 0 := by decide +kernel
theorem pX4_iterator : plainFor yX4_iterator = true := plainFor_of_name (by decide +kernel)
abbrev mX7_hasNext : aM := (yX7_hasNext, cX7_hasNext, 1, some Jvm.ClassFile.FieldType.boolean, [])
theorem nX7_hasNext : aNoMH yX7_hasNext 0 := by decide +kernel
theorem pX7_hasNext : plainFor yX7_hasNext = true := plainFor_of_name (by decide +kernel)
abbrev mX7_next_2 : aM := (yX7_next_2, cX7_next_2, 1, some ((Jvm.ClassFile.FieldType.array Jvm.ClassFile.FieldType.int)), [])
theorem nX7_next_2 : aNoMH yX7_next_2 0 := by decide +kernel
theorem pX7_next_2 : plainFor yX7_next_2 = true := plainFor_of_name (by decide +kernel)
abbrev mX7_next : aM := (yX7_next, cX7_next, 1, some ((Jvm.ClassFile.FieldType.object "java/lang/Object")), [])
theorem nX7_next : aNoMH yX7_next 0 := by decide +kernel
theorem pX7_next : plainFor yX7_next = true := plainFor_of_name (by decide +kernel)
abbrev mX5_everything : aM := (yX5_everything, cX5_everything, 1, some Jvm.ClassFile.FieldType.int, [])
theorem nX5_everything : aNoMH yX5_everything 0 := by decide +kernel
theorem pX5_everything : plainFor yX5_everything = true := plainFor_of_name (by decide +kernel)
abbrev mX5_clear : aM := (yX5_clear, cX5_clear, 3, some Jvm.ClassFile.FieldType.int, [])
theorem nX5_clear : aNoMH yX5_clear 0 := by decide +kernel
theorem pX5_clear : plainFor yX5_clear = true := plainFor_of_name (by decide +kernel)
abbrev mX5_init : aM := (yX5_init, cX5_init, 2, none, [])
theorem nX5_init : aNoMH yX5_init 1 := by decide +kernel
theorem pX5_init : plainFor yX5_init = true := plainFor_of_name (by decide +kernel)
abbrev mX2_init : aM := (yX2_init, cX2_init, 1, none, [])
theorem nX2_init : aNoMH yX2_init 0 := by decide +kernel
theorem pX2_init : plainFor yX2_init = true := plainFor_of_name (by decide +kernel)
abbrev mX5_setThings : aM := (yX5_setThings, cX5_setThings, 2, none, [])
theorem nX5_setThings : aNoMH yX5_setThings 1 := by decide +kernel
theorem pX5_setThings : plainFor yX5_setThings = true := plainFor_of_name (by decide +kernel)
abbrev mX2_setAll : aM := (yX2_setAll, cX2_setAll, 2, none, [])
theorem nX2_setAll : aNoMH yX2_setAll 1 := by decide +kernel
theorem pX2_setAll : plainFor yX2_setAll = true := plainFor_of_name (by decide +kernel)
abbrev mX2_copy : aM := (yX2_copy, cX2_copy, 2, some ((Jvm.ClassFile.FieldType.object "EdgeLetters$Desk")), [])
theorem nX2_copy : aNoMH yX2_copy 0 := by decide +kernel
theorem pX2_copy : plainFor yX2_copy = true := plainFor_of_name (by decide +kernel)
abbrev mX5_isSettled : aM := (yX5_isSettled, cX5_isSettled, 2, some Jvm.ClassFile.FieldType.boolean, [])
theorem nX5_isSettled : aNoMH yX5_isSettled 1 := by decide +kernel
theorem pX5_isSettled : plainFor yX5_isSettled = true := plainFor_of_name (by decide +kernel)
abbrev mX5_canHave : aM := (yX5_canHave, cX5_canHave, 5, some Jvm.ClassFile.FieldType.boolean, [])
theorem nX5_canHave : aNoMH yX5_canHave 2 := by decide +kernel
theorem pX5_canHave : plainFor yX5_canHave = true := plainFor_of_name (by decide +kernel)
abbrev mX5_isLineBroken : aM := (yX5_isLineBroken, cX5_isLineBroken, 3, some Jvm.ClassFile.FieldType.boolean, [])
theorem nX5_isLineBroken : aNoMH yX5_isLineBroken 1 := by decide +kernel
theorem pX5_isLineBroken : plainFor yX5_isLineBroken = true := plainFor_of_name (by decide +kernel)
abbrev mX5_isBroken : aM := (yX5_isBroken, cX5_isBroken, 2, some Jvm.ClassFile.FieldType.boolean, [])
theorem nX5_isBroken : aNoMH yX5_isBroken 0 := by decide +kernel
theorem pX5_isBroken : plainFor yX5_isBroken = true := plainFor_of_name (by decide +kernel)
abbrev mX5_isSolved : aM := (yX5_isSolved, cX5_isSolved, 3, some Jvm.ClassFile.FieldType.boolean, [])
theorem nX5_isSolved : aNoMH yX5_isSolved 0 := by decide +kernel
theorem pX5_isSolved : plainFor yX5_isSolved = true := plainFor_of_name (by decide +kernel)
abbrev mX5_brokenLines : aM := (yX5_brokenLines, cX5_brokenLines, 3, some Jvm.ClassFile.FieldType.int, [])
theorem nX5_brokenLines : aNoMH yX5_brokenLines 0 := by decide +kernel
theorem pX5_brokenLines : plainFor yX5_brokenLines = true := plainFor_of_name (by decide +kernel)
abbrev mX5_linePossible : aM := (yX5_linePossible, cX5_linePossible, 6, some Jvm.ClassFile.FieldType.int, [])
theorem nX5_linePossible : aNoMH yX5_linePossible 1 := by decide +kernel
theorem pX5_linePossible : plainFor yX5_linePossible = true := plainFor_of_name (by decide +kernel)
abbrev mX5_fillLine : aM := (yX5_fillLine, cX5_fillLine, 7, some Jvm.ClassFile.FieldType.boolean, [])
theorem nX5_fillLine : aNoMH yX5_fillLine 1 := by decide +kernel
theorem pX5_fillLine : plainFor yX5_fillLine = true := plainFor_of_name (by decide +kernel)
abbrev mX5_fill : aM := (yX5_fill, cX5_fill, 3, none, [])
theorem nX5_fill : aNoMH yX5_fill 0 := by decide +kernel
theorem pX5_fill : plainFor yX5_fill = true := plainFor_of_name (by decide +kernel)
abbrev mX5_breaksAs : aM := (yX5_breaksAs, cX5_breaksAs, 4, some Jvm.ClassFile.FieldType.boolean, [])
theorem nX5_breaksAs : aNoMH yX5_breaksAs 3 := by decide +kernel
theorem pX5_breaksAs : plainFor yX5_breaksAs = true := plainFor_of_name (by decide +kernel)
abbrev mX5_settledWith : aM := (yX5_settledWith, cX5_settledWith, 7, some Jvm.ClassFile.FieldType.int, [])
theorem nX5_settledWith : aNoMH yX5_settledWith 3 := by decide +kernel
theorem pX5_settledWith : plainFor yX5_settledWith = true := plainFor_of_name (by decide +kernel)
abbrev mX5_placeIn : aM := (yX5_placeIn, cX5_placeIn, 4, some Jvm.ClassFile.FieldType.int, [])
theorem nX5_placeIn : aNoMH yX5_placeIn 2 := by decide +kernel
theorem pX5_placeIn : plainFor yX5_placeIn = true := plainFor_of_name (by decide +kernel)
abbrev mX5_placesWith : aM := (yX5_placesWith, cX5_placesWith, 5, some Jvm.ClassFile.FieldType.int, [])
theorem nX5_placesWith : aNoMH yX5_placesWith 2 := by decide +kernel
theorem pX5_placesWith : plainFor yX5_placesWith = true := plainFor_of_name (by decide +kernel)
abbrev mX5_hasOther : aM := (yX5_hasOther, cX5_hasOther, 7, some Jvm.ClassFile.FieldType.boolean, [])
theorem nX5_hasOther : aNoMH yX5_hasOther 3 := by decide +kernel
theorem pX5_hasOther : plainFor yX5_hasOther = true := plainFor_of_name (by decide +kernel)
abbrev mX5_isByGaps : aM := (yX5_isByGaps, cX5_isByGaps, 5, some Jvm.ClassFile.FieldType.boolean, [])
theorem nX5_isByGaps : aNoMH yX5_isByGaps 3 := by decide +kernel
theorem pX5_isByGaps : plainFor yX5_isByGaps = true := plainFor_of_name (by decide +kernel)
abbrev mX5_isInPair : aM := (yX5_isInPair, cX5_isInPair, 10, some Jvm.ClassFile.FieldType.boolean, [])
theorem nX5_isInPair : aNoMH yX5_isInPair 3 := by decide +kernel
theorem pX5_isInPair : plainFor yX5_isInPair = true := plainFor_of_name (by decide +kernel)
abbrev mX5_thingsIn : aM := (yX5_thingsIn, cX5_thingsIn, 3, some Jvm.ClassFile.FieldType.int, [])
theorem nX5_thingsIn : aNoMH yX5_thingsIn 2 := by decide +kernel
theorem pX5_thingsIn : plainFor yX5_thingsIn = true := plainFor_of_name (by decide +kernel)
abbrev mX5_holdsIn : aM := (yX5_holdsIn, cX5_holdsIn, 5, some Jvm.ClassFile.FieldType.boolean, [])
theorem nX5_holdsIn : aNoMH yX5_holdsIn 4 := by decide +kernel
theorem pX5_holdsIn : plainFor yX5_holdsIn = true := plainFor_of_name (by decide +kernel)
abbrev mX5_holds : aM := (yX5_holds, cX5_holds, 7, some Jvm.ClassFile.FieldType.boolean, [])
theorem nX5_holds : aNoMH yX5_holds 4 := by decide +kernel
theorem pX5_holds : plainFor yX5_holds = true := plainFor_of_name (by decide +kernel)
abbrev mX5_nextFor : aM := (yX5_nextFor, cX5_nextFor, 6, some Jvm.ClassFile.FieldType.int, [])
theorem nX5_nextFor : aNoMH yX5_nextFor 2 := by decide +kernel
theorem pX5_nextFor : plainFor yX5_nextFor = true := plainFor_of_name (by decide +kernel)
abbrev mX5_next : aM := (yX5_next, cX5_next, 5, some Jvm.ClassFile.FieldType.int, [])
theorem nX5_next : aNoMH yX5_next 2 := by decide +kernel
theorem pX5_next : plainFor yX5_next = true := plainFor_of_name (by decide +kernel)
abbrev mX5_make : aM := (yX5_make, cX5_make, 2, some Jvm.ClassFile.FieldType.int, [])
theorem nX5_make : aNoMH yX5_make 1 := by decide +kernel
theorem pX5_make : plainFor yX5_make = true := plainFor_of_name (by decide +kernel)
abbrev mX5_stepAll : aM := (yX5_stepAll, cX5_stepAll, 6, some Jvm.ClassFile.FieldType.int, [])
theorem nX5_stepAll : aNoMH yX5_stepAll 2 := by decide +kernel
theorem pX5_stepAll : plainFor yX5_stepAll = true := plainFor_of_name (by decide +kernel)
abbrev mX5_nextCell : aM := (yX5_nextCell, cX5_nextCell, 5, some Jvm.ClassFile.FieldType.int, [])
theorem nX5_nextCell : aNoMH yX5_nextCell 1 := by decide +kernel
theorem pX5_nextCell : plainFor yX5_nextCell = true := plainFor_of_name (by decide +kernel)
abbrev mX5_isBrokenAt : aM := (yX5_isBrokenAt, cX5_isBrokenAt, 4, some Jvm.ClassFile.FieldType.boolean, [])
theorem nX5_isBrokenAt : aNoMH yX5_isBrokenAt 1 := by decide +kernel
theorem pX5_isBrokenAt : plainFor yX5_isBrokenAt = true := plainFor_of_name (by decide +kernel)
abbrev mX5_search : aM := (yX5_search, cX5_search, 6, none, [])
theorem nX5_search : aNoMH yX5_search 2 := by decide +kernel
theorem pX5_search : plainFor yX5_search = true := plainFor_of_name (by decide +kernel)
abbrev mX5_solutions : aM := (yX5_solutions, cX5_solutions, 4, some ((Jvm.ClassFile.FieldType.object "EdgeLetters$Found")), [])
theorem nX5_solutions : aNoMH yX5_solutions 2 := by decide +kernel
theorem pX5_solutions : plainFor yX5_solutions = true := plainFor_of_name (by decide +kernel)
abbrev mX5_countWith : aM := (yX5_countWith, cX5_countWith, 6, some Jvm.ClassFile.FieldType.int, [])
theorem nX5_countWith : aNoMH yX5_countWith 3 := by decide +kernel
theorem pX5_countWith : plainFor yX5_countWith = true := plainFor_of_name (by decide +kernel)
abbrev mX5_countByRows : aM := (yX5_countByRows, cX5_countByRows, 7, some Jvm.ClassFile.FieldType.int, [])
theorem nX5_countByRows : aNoMH yX5_countByRows 2 := by decide +kernel
theorem pX5_countByRows : plainFor yX5_countByRows = true := plainFor_of_name (by decide +kernel)
abbrev mX5_crossedOut : aM := (yX5_crossedOut, cX5_crossedOut, 3, some Jvm.ClassFile.FieldType.int, [])
theorem nX5_crossedOut : aNoMH yX5_crossedOut 0 := by decide +kernel
theorem pX5_crossedOut : plainFor yX5_crossedOut = true := plainFor_of_name (by decide +kernel)
abbrev mX5_arrangements : aM := (yX5_arrangements, cX5_arrangements, 5, some Jvm.ClassFile.FieldType.int, [])
theorem nX5_arrangements : aNoMH yX5_arrangements 1 := by decide +kernel
theorem pX5_arrangements : plainFor yX5_arrangements = true := plainFor_of_name (by decide +kernel)
abbrev mX5_countFrom : aM := (yX5_countFrom, cX5_countFrom, 11, some Jvm.ClassFile.FieldType.int, [])
theorem nX5_countFrom : aNoMH yX5_countFrom 4 := by decide +kernel
theorem pX5_countFrom : plainFor yX5_countFrom = true := plainFor_of_name (by decide +kernel)
abbrev mX5_reasonFor : aM := (yX5_reasonFor, cX5_reasonFor, 5, some Jvm.ClassFile.FieldType.int, [])
theorem nX5_reasonFor : aNoMH yX5_reasonFor 3 := by decide +kernel
theorem pX5_reasonFor : plainFor yX5_reasonFor = true := plainFor_of_name (by decide +kernel)
abbrev mX1_has : aM := (yX1_has, cX1_has, 2, some Jvm.ClassFile.FieldType.boolean, [])
theorem nX1_has : aNoMH yX1_has 2 := by decide +kernel
theorem pX1_has : plainFor yX1_has = true := plainFor_of_name (by decide +kernel)
abbrev mX1_init : aM := (yX1_init, cX1_init, 1, none, [])
theorem nX1_init : aNoMH yX1_init 0 := by decide +kernel
theorem pX1_init : plainFor yX1_init = true := plainFor_of_name (by decide +kernel)
abbrev mX1_recordIf : aM := (yX1_recordIf, cX1_recordIf, 3, none, [])
theorem nX1_recordIf : aNoMH yX1_recordIf 1 := by decide +kernel
theorem pX1_recordIf : plainFor yX1_recordIf = true := plainFor_of_name (by decide +kernel)
abbrev mX1_turnDiagonals : aM := (yX1_turnDiagonals, cX1_turnDiagonals, 1, some Jvm.ClassFile.FieldType.boolean, [])
theorem nX1_turnDiagonals : aNoMH yX1_turnDiagonals 0 := by decide +kernel
theorem pX1_turnDiagonals : plainFor yX1_turnDiagonals = true := plainFor_of_name (by decide +kernel)
abbrev mX1_isSingle : aM := (yX1_isSingle, cX1_isSingle, 1, some Jvm.ClassFile.FieldType.boolean, [])
theorem nX1_isSingle : aNoMH yX1_isSingle 1 := by decide +kernel
theorem pX1_isSingle : plainFor yX1_isSingle = true := plainFor_of_name (by decide +kernel)
abbrev mX1_settledLine : aM := (yX1_settledLine, cX1_settledLine, 5, some ((Jvm.ClassFile.FieldType.array Jvm.ClassFile.FieldType.int)), [])
theorem nX1_settledLine : aNoMH yX1_settledLine 1 := by decide +kernel
theorem pX1_settledLine : plainFor yX1_settledLine = true := plainFor_of_name (by decide +kernel)
abbrev mX1_isComplete : aM := (yX1_isComplete, cX1_isComplete, 8, some Jvm.ClassFile.FieldType.boolean, [])
theorem nX1_isComplete : aNoMH yX1_isComplete 1 := by decide +kernel
theorem pX1_isComplete : plainFor yX1_isComplete = true := plainFor_of_name (by decide +kernel)
abbrev mX1_seen : aM := (yX1_seen, cX1_seen, 7, some Jvm.ClassFile.FieldType.int, [])
theorem nX1_seen : aNoMH yX1_seen 4 := by decide +kernel
theorem pX1_seen : plainFor yX1_seen = true := plainFor_of_name (by decide +kernel)
abbrev mX1_tellFirsts : aM := (yX1_tellFirsts, cX1_tellFirsts, 4, some Jvm.ClassFile.FieldType.int, [])
theorem nX1_tellFirsts : aNoMH yX1_tellFirsts 0 := by decide +kernel
theorem pX1_tellFirsts : plainFor yX1_tellFirsts = true := plainFor_of_name (by decide +kernel)
abbrev mX1_mirror : aM := (yX1_mirror, cX1_mirror, 5, some Jvm.ClassFile.FieldType.int, [])
theorem nX1_mirror : aNoMH yX1_mirror 0 := by decide +kernel
theorem pX1_mirror : plainFor yX1_mirror = true := plainFor_of_name (by decide +kernel)
abbrev mX1_side : aM := (yX1_side, cX1_side, 1, some Jvm.ClassFile.FieldType.int, [])
theorem nX1_side : aNoMH yX1_side 0 := by decide +kernel
theorem pX1_side : plainFor yX1_side = true := plainFor_of_name (by decide +kernel)
abbrev mX1_letterCount : aM := (yX1_letterCount, cX1_letterCount, 1, some Jvm.ClassFile.FieldType.int, [])
theorem nX1_letterCount : aNoMH yX1_letterCount 0 := by decide +kernel
theorem pX1_letterCount : plainFor yX1_letterCount = true := plainFor_of_name (by decide +kernel)
abbrev mX1_lineCount : aM := (yX1_lineCount, cX1_lineCount, 1, some Jvm.ClassFile.FieldType.int, [])
theorem nX1_lineCount : aNoMH yX1_lineCount 0 := by decide +kernel
theorem pX1_lineCount : plainFor yX1_lineCount = true := plainFor_of_name (by decide +kernel)
abbrev mX1_tellingCount : aM := (yX1_tellingCount, cX1_tellingCount, 1, some Jvm.ClassFile.FieldType.int, [])
theorem nX1_tellingCount : aNoMH yX1_tellingCount 0 := by decide +kernel
theorem pX1_tellingCount : plainFor yX1_tellingCount = true := plainFor_of_name (by decide +kernel)
abbrev mX1_clearCells : aM := (yX1_clearCells, cX1_clearCells, 1, some Jvm.ClassFile.FieldType.int, [])
theorem nX1_clearCells : aNoMH yX1_clearCells 0 := by decide +kernel
theorem pX1_clearCells : plainFor yX1_clearCells = true := plainFor_of_name (by decide +kernel)
abbrev mX1_settled : aM := (yX1_settled, cX1_settled, 4, some Jvm.ClassFile.FieldType.long, [])
theorem nX1_settled : aNoMH yX1_settled 0 := by decide +kernel
theorem pX1_settled : plainFor yX1_settled = true := plainFor_of_name (by decide +kernel)
abbrev mX1_isBroken : aM := (yX1_isBroken, cX1_isBroken, 1, some Jvm.ClassFile.FieldType.boolean, [])
theorem nX1_isBroken : aNoMH yX1_isBroken 0 := by decide +kernel
theorem pX1_isBroken : plainFor yX1_isBroken = true := plainFor_of_name (by decide +kernel)
abbrev mX1_isSolved : aM := (yX1_isSolved, cX1_isSolved, 1, some Jvm.ClassFile.FieldType.boolean, [])
theorem nX1_isSolved : aNoMH yX1_isSolved 0 := by decide +kernel
theorem pX1_isSolved : plainFor yX1_isSolved = true := plainFor_of_name (by decide +kernel)
abbrev mX1_brokenLines : aM := (yX1_brokenLines, cX1_brokenLines, 1, some Jvm.ClassFile.FieldType.int, [])
theorem nX1_brokenLines : aNoMH yX1_brokenLines 0 := by decide +kernel
theorem pX1_brokenLines : plainFor yX1_brokenLines = true := plainFor_of_name (by decide +kernel)
abbrev mX1_nextStep : aM := (yX1_nextStep, cX1_nextStep, 1, some Jvm.ClassFile.FieldType.int, [])
theorem nX1_nextStep : aNoMH yX1_nextStep 0 := by decide +kernel
theorem pX1_nextStep : plainFor yX1_nextStep = true := plainFor_of_name (by decide +kernel)
abbrev mX1_hardness : aM := (yX1_hardness, cX1_hardness, 3, some Jvm.ClassFile.FieldType.int, [])
theorem nX1_hardness : aNoMH yX1_hardness 0 := by decide +kernel
theorem pX1_hardness : plainFor yX1_hardness = true := plainFor_of_name (by decide +kernel)
abbrev mX1_found : aM := (yX1_found, cX1_found, 3, some ((Jvm.ClassFile.FieldType.object "EdgeLetters$Found")), [])
theorem nX1_found : aNoMH yX1_found 2 := by decide +kernel
theorem pX1_found : plainFor yX1_found = true := plainFor_of_name (by decide +kernel)
abbrev mX1_solutionCount : aM := (yX1_solutionCount, cX1_solutionCount, 1, some Jvm.ClassFile.FieldType.int, [])
theorem nX1_solutionCount : aNoMH yX1_solutionCount 0 := by decide +kernel
theorem pX1_solutionCount : plainFor yX1_solutionCount = true := plainFor_of_name (by decide +kernel)
abbrev mX1_solutionCountByRows : aM := (yX1_solutionCountByRows, cX1_solutionCountByRows, 1, some Jvm.ClassFile.FieldType.int, [])
theorem nX1_solutionCountByRows : aNoMH yX1_solutionCountByRows 0 := by decide +kernel
theorem pX1_solutionCountByRows : plainFor yX1_solutionCountByRows = true := plainFor_of_name (by decide +kernel)
abbrev mX1_sameInAll : aM := (yX1_sameInAll, cX1_sameInAll, 3, some Jvm.ClassFile.FieldType.long, [])
theorem nX1_sameInAll : aNoMH yX1_sameInAll 0 := by decide +kernel
theorem pX1_sameInAll : plainFor yX1_sameInAll = true := plainFor_of_name (by decide +kernel)
abbrev mX1_crossedShare : aM := (yX1_crossedShare, cX1_crossedShare, 3, some Jvm.ClassFile.FieldType.double, [])
theorem nX1_crossedShare : aNoMH yX1_crossedShare 0 := by decide +kernel
theorem pX1_crossedShare : plainFor yX1_crossedShare = true := plainFor_of_name (by decide +kernel)
abbrev mX1_clearText : aM := (yX1_clearText, cX1_clearText, 2, some Jvm.ClassFile.FieldType.int, [])
theorem nX1_clearText : aNoMH yX1_clearText 0 := by decide +kernel
theorem pX1_clearText : plainFor yX1_clearText = true := plainFor_of_name (by decide +kernel)
abbrev mX1_textLength : aM := (yX1_textLength, cX1_textLength, 1, some Jvm.ClassFile.FieldType.int, [])
theorem nX1_textLength : aNoMH yX1_textLength 0 := by decide +kernel
theorem pX1_textLength : plainFor yX1_textLength = true := plainFor_of_name (by decide +kernel)
abbrev mX9_next : aM := (yX9_next, cX9_next, 1, some Jvm.ClassFile.FieldType.char, [])
theorem nX9_next : aNoMH yX9_next 0 := by decide +kernel
theorem pX9_next : plainFor yX9_next = true := plainFor_of_name (by decide +kernel)
abbrev mX1_isIn : aM := (yX1_isIn, cX1_isIn, 3, some Jvm.ClassFile.FieldType.boolean, [])
theorem nX1_isIn : aNoMH yX1_isIn 3 := by decide +kernel
theorem pX1_isIn : plainFor yX1_isIn = true := plainFor_of_name (by decide +kernel)
abbrev mX9_seesDigit : aM := (yX9_seesDigit, cX9_seesDigit, 1, some Jvm.ClassFile.FieldType.boolean, [])
theorem nX9_seesDigit : aNoMH yX9_seesDigit 0 := by decide +kernel
theorem pX9_seesDigit : plainFor yX9_seesDigit = true := plainFor_of_name (by decide +kernel)
abbrev mX9_readDigit : aM := (yX9_readDigit, cX9_readDigit, 1, some Jvm.ClassFile.FieldType.int, [])
theorem nX9_readDigit : aNoMH yX9_readDigit 0 := by decide +kernel
theorem pX9_readDigit : plainFor yX9_readDigit = true := plainFor_of_name (by decide +kernel)
abbrev mX9_readNumber : aM := (yX9_readNumber, cX9_readNumber, 2, some Jvm.ClassFile.FieldType.int, [])
theorem nX9_readNumber : aNoMH yX9_readNumber 0 := by decide +kernel
theorem pX9_readNumber : plainFor yX9_readNumber = true := plainFor_of_name (by decide +kernel)
abbrev mX9_skips : aM := (yX9_skips, cX9_skips, 3, some Jvm.ClassFile.FieldType.boolean, [])
theorem nX9_skips : aNoMH yX9_skips 1 := by decide +kernel
theorem pX9_skips : plainFor yX9_skips = true := plainFor_of_name (by decide +kernel)
abbrev mX9_readLetter : aM := (yX9_readLetter, cX9_readLetter, 1, some Jvm.ClassFile.FieldType.int, [])
theorem nX9_readLetter : aNoMH yX9_readLetter 0 := by decide +kernel
theorem pX9_readLetter : plainFor yX9_readLetter = true := plainFor_of_name (by decide +kernel)
abbrev mX9_readThing : aM := (yX9_readThing, cX9_readThing, 1, some Jvm.ClassFile.FieldType.int, [])
theorem nX9_readThing : aNoMH yX9_readThing 0 := by decide +kernel
theorem pX9_readThing : plainFor yX9_readThing = true := plainFor_of_name (by decide +kernel)
abbrev mX9_readCommand : aM := (yX9_readCommand, cX9_readCommand, 6, none, [])
theorem nX9_readCommand : aNoMH yX9_readCommand 0 := by decide +kernel
theorem pX9_readCommand : plainFor yX9_readCommand = true := plainFor_of_name (by decide +kernel)
abbrev mX9_readSign : aM := (yX9_readSign, cX9_readSign, 2, none, [])
theorem nX9_readSign : aNoMH yX9_readSign 1 := by decide +kernel
theorem pX9_readSign : plainFor yX9_readSign = true := plainFor_of_name (by decide +kernel)
abbrev mX9_init : aM := (yX9_init, cX9_init, 2, none, [])
theorem nX9_init : aNoMH yX9_init 1 := by decide +kernel
theorem pX9_init : plainFor yX9_init = true := plainFor_of_name (by decide +kernel)
abbrev mX1_textError : aM := (yX1_textError, cX1_textError, 2, some Jvm.ClassFile.FieldType.int, [])
theorem nX1_textError : aNoMH yX1_textError 0 := by decide +kernel
theorem pX1_textError : plainFor yX1_textError = true := plainFor_of_name (by decide +kernel)
abbrev mX1_undoCount : aM := (yX1_undoCount, cX1_undoCount, 1, some Jvm.ClassFile.FieldType.int, [])
theorem nX1_undoCount : aNoMH yX1_undoCount 0 := by decide +kernel
theorem pX1_undoCount : plainFor yX1_undoCount = true := plainFor_of_name (by decide +kernel)
abbrev mX1_checkArgument : aM := (yX1_checkArgument, cX1_checkArgument, 1, none, [])
theorem nX1_checkArgument : aNoMH yX1_checkArgument 1 := by decide +kernel
theorem pX1_checkArgument : plainFor yX1_checkArgument = true := plainFor_of_name (by decide +kernel)
abbrev mX1_start : aM := (yX1_start, cX1_start, 4, some Jvm.ClassFile.FieldType.int, [])
theorem nX1_start : aNoMH yX1_start 2 := by decide +kernel
theorem pX1_start : plainFor yX1_start = true := plainFor_of_name (by decide +kernel)
abbrev mX1_checkIndex : aM := (yX1_checkIndex, cX1_checkIndex, 1, none, [])
theorem nX1_checkIndex : aNoMH yX1_checkIndex 1 := by decide +kernel
theorem pX1_checkIndex : plainFor yX1_checkIndex = true := plainFor_of_name (by decide +kernel)
abbrev mX1_checkEdge : aM := (yX1_checkEdge, cX1_checkEdge, 2, none, [])
theorem nX1_checkEdge : aNoMH yX1_checkEdge 1 := by decide +kernel
theorem pX1_checkEdge : plainFor yX1_checkEdge = true := plainFor_of_name (by decide +kernel)
abbrev mX1_checkLetter : aM := (yX1_checkLetter, cX1_checkLetter, 2, none, [])
theorem nX1_checkLetter : aNoMH yX1_checkLetter 1 := by decide +kernel
theorem pX1_checkLetter : plainFor yX1_checkLetter = true := plainFor_of_name (by decide +kernel)
abbrev mX1_tell : aM := (yX1_tell, cX1_tell, 5, some Jvm.ClassFile.FieldType.int, [])
theorem nX1_tell : aNoMH yX1_tell 4 := by decide +kernel
theorem pX1_tell : plainFor yX1_tell = true := plainFor_of_name (by decide +kernel)
abbrev mX1_setTelling : aM := (yX1_setTelling, cX1_setTelling, 4, some Jvm.ClassFile.FieldType.int, [])
theorem nX1_setTelling : aNoMH yX1_setTelling 3 := by decide +kernel
theorem pX1_setTelling : plainFor yX1_setTelling = true := plainFor_of_name (by decide +kernel)
abbrev mX1_checkState : aM := (yX1_checkState, cX1_checkState, 1, none, [])
theorem nX1_checkState : aNoMH yX1_checkState 1 := by decide +kernel
theorem pX1_checkState : plainFor yX1_checkState = true := plainFor_of_name (by decide +kernel)
abbrev mX1_untell : aM := (yX1_untell, cX1_untell, 4, some Jvm.ClassFile.FieldType.int, [])
theorem nX1_untell : aNoMH yX1_untell 2 := by decide +kernel
theorem pX1_untell : plainFor yX1_untell = true := plainFor_of_name (by decide +kernel)
abbrev mX1_clearTelling : aM := (yX1_clearTelling, cX1_clearTelling, 2, some Jvm.ClassFile.FieldType.int, [])
theorem nX1_clearTelling : aNoMH yX1_clearTelling 1 := by decide +kernel
theorem pX1_clearTelling : plainFor yX1_clearTelling = true := plainFor_of_name (by decide +kernel)
abbrev mX1_exchange : aM := (yX1_exchange, cX1_exchange, 5, some Jvm.ClassFile.FieldType.int, [])
theorem nX1_exchange : aNoMH yX1_exchange 2 := by decide +kernel
theorem pX1_exchange : plainFor yX1_exchange = true := plainFor_of_name (by decide +kernel)
abbrev mX1_tellingAt : aM := (yX1_tellingAt, cX1_tellingAt, 2, some Jvm.ClassFile.FieldType.int, [])
theorem nX1_tellingAt : aNoMH yX1_tellingAt 1 := by decide +kernel
theorem pX1_tellingAt : plainFor yX1_tellingAt = true := plainFor_of_name (by decide +kernel)
abbrev mX1_isSecond : aM := (yX1_isSecond, cX1_isSecond, 2, some Jvm.ClassFile.FieldType.boolean, [])
theorem nX1_isSecond : aNoMH yX1_isSecond 1 := by decide +kernel
theorem pX1_isSecond : plainFor yX1_isSecond = true := plainFor_of_name (by decide +kernel)
abbrev mX1_checkLine : aM := (yX1_checkLine, cX1_checkLine, 2, none, [])
theorem nX1_checkLine : aNoMH yX1_checkLine 1 := by decide +kernel
theorem pX1_checkLine : plainFor yX1_checkLine = true := plainFor_of_name (by decide +kernel)
abbrev mX1_checkPlace : aM := (yX1_checkPlace, cX1_checkPlace, 3, none, [])
theorem nX1_checkPlace : aNoMH yX1_checkPlace 2 := by decide +kernel
theorem pX1_checkPlace : plainFor yX1_checkPlace = true := plainFor_of_name (by decide +kernel)
abbrev mX1_cellOf : aM := (yX1_cellOf, cX1_cellOf, 3, some Jvm.ClassFile.FieldType.int, [])
theorem nX1_cellOf : aNoMH yX1_cellOf 2 := by decide +kernel
theorem pX1_cellOf : plainFor yX1_cellOf = true := plainFor_of_name (by decide +kernel)
abbrev mX1_checkCell : aM := (yX1_checkCell, cX1_checkCell, 2, none, [])
theorem nX1_checkCell : aNoMH yX1_checkCell 1 := by decide +kernel
theorem pX1_checkCell : plainFor yX1_checkCell = true := plainFor_of_name (by decide +kernel)
abbrev mX1_checkThing : aM := (yX1_checkThing, cX1_checkThing, 2, none, [])
theorem nX1_checkThing : aNoMH yX1_checkThing 1 := by decide +kernel
theorem pX1_checkThing : plainFor yX1_checkThing = true := plainFor_of_name (by decide +kernel)
abbrev mX1_settle : aM := (yX1_settle, cX1_settle, 5, some Jvm.ClassFile.FieldType.int, [])
theorem nX1_settle : aNoMH yX1_settle 3 := by decide +kernel
theorem pX1_settle : plainFor yX1_settle = true := plainFor_of_name (by decide +kernel)
abbrev mX1_put : aM := (yX1_put, cX1_put, 3, some Jvm.ClassFile.FieldType.int, [])
theorem nX1_put : aNoMH yX1_put 2 := by decide +kernel
theorem pX1_put : plainFor yX1_put = true := plainFor_of_name (by decide +kernel)
abbrev mX1_strike : aM := (yX1_strike, cX1_strike, 4, some Jvm.ClassFile.FieldType.int, [])
theorem nX1_strike : aNoMH yX1_strike 3 := by decide +kernel
theorem pX1_strike : plainFor yX1_strike = true := plainFor_of_name (by decide +kernel)
abbrev mX1_crossOut : aM := (yX1_crossOut, cX1_crossOut, 3, some Jvm.ClassFile.FieldType.int, [])
theorem nX1_crossOut : aNoMH yX1_crossOut 2 := by decide +kernel
theorem pX1_crossOut : plainFor yX1_crossOut = true := plainFor_of_name (by decide +kernel)
abbrev mX1_thingsOf : aM := (yX1_thingsOf, cX1_thingsOf, 2, some Jvm.ClassFile.FieldType.int, [])
theorem nX1_thingsOf : aNoMH yX1_thingsOf 1 := by decide +kernel
theorem pX1_thingsOf : plainFor yX1_thingsOf = true := plainFor_of_name (by decide +kernel)
abbrev mX1_cellsWith : aM := (yX1_cellsWith, cX1_cellsWith, 5, some Jvm.ClassFile.FieldType.long, [])
theorem nX1_cellsWith : aNoMH yX1_cellsWith 1 := by decide +kernel
theorem pX1_cellsWith : plainFor yX1_cellsWith = true := plainFor_of_name (by decide +kernel)
abbrev mX1_arrangements : aM := (yX1_arrangements, cX1_arrangements, 2, some Jvm.ClassFile.FieldType.int, [])
theorem nX1_arrangements : aNoMH yX1_arrangements 1 := by decide +kernel
theorem pX1_arrangements : plainFor yX1_arrangements = true := plainFor_of_name (by decide +kernel)
abbrev mX1_arrangementsByCells : aM := (yX1_arrangementsByCells, cX1_arrangementsByCells, 2, some Jvm.ClassFile.FieldType.int, [])
theorem nX1_arrangementsByCells : aNoMH yX1_arrangementsByCells 1 := by decide +kernel
theorem pX1_arrangementsByCells : plainFor yX1_arrangementsByCells = true := plainFor_of_name (by decide +kernel)
abbrev mX1_thingsIn : aM := (yX1_thingsIn, cX1_thingsIn, 3, some Jvm.ClassFile.FieldType.int, [])
theorem nX1_thingsIn : aNoMH yX1_thingsIn 2 := by decide +kernel
theorem pX1_thingsIn : plainFor yX1_thingsIn = true := plainFor_of_name (by decide +kernel)
abbrev mX1_seenFrom : aM := (yX1_seenFrom, cX1_seenFrom, 4, some Jvm.ClassFile.FieldType.int, [])
theorem nX1_seenFrom : aNoMH yX1_seenFrom 2 := by decide +kernel
theorem pX1_seenFrom : plainFor yX1_seenFrom = true := plainFor_of_name (by decide +kernel)
abbrev mX1_reasonFor : aM := (yX1_reasonFor, cX1_reasonFor, 4, some Jvm.ClassFile.FieldType.int, [])
theorem nX1_reasonFor : aNoMH yX1_reasonFor 2 := by decide +kernel
theorem pX1_reasonFor : plainFor yX1_reasonFor = true := plainFor_of_name (by decide +kernel)
abbrev mX1_step : aM := (yX1_step, cX1_step, 2, some Jvm.ClassFile.FieldType.int, [])
theorem nX1_step : aNoMH yX1_step 0 := by decide +kernel
theorem pX1_step : plainFor yX1_step = true := plainFor_of_name (by decide +kernel)
abbrev mX1_checkReason : aM := (yX1_checkReason, cX1_checkReason, 1, none, [])
theorem nX1_checkReason : aNoMH yX1_checkReason 1 := by decide +kernel
theorem pX1_checkReason : plainFor yX1_checkReason = true := plainFor_of_name (by decide +kernel)
abbrev mX1_stepAll : aM := (yX1_stepAll, cX1_stepAll, 2, some Jvm.ClassFile.FieldType.int, [])
theorem nX1_stepAll : aNoMH yX1_stepAll 1 := by decide +kernel
theorem pX1_stepAll : plainFor yX1_stepAll = true := plainFor_of_name (by decide +kernel)
abbrev mX1_stepsUpTo : aM := (yX1_stepsUpTo, cX1_stepsUpTo, 2, some Jvm.ClassFile.FieldType.int, [])
theorem nX1_stepsUpTo : aNoMH yX1_stepsUpTo 1 := by decide +kernel
theorem pX1_stepsUpTo : plainFor yX1_stepsUpTo = true := plainFor_of_name (by decide +kernel)
abbrev mX1_firstThing : aM := (yX1_firstThing, cX1_firstThing, 3, some Jvm.ClassFile.FieldType.int, [])
theorem nX1_firstThing : aNoMH yX1_firstThing 1 := by decide +kernel
theorem pX1_firstThing : plainFor yX1_firstThing = true := plainFor_of_name (by decide +kernel)
abbrev mX1_isNeeded : aM := (yX1_isNeeded, cX1_isNeeded, 10, some Jvm.ClassFile.FieldType.boolean, [(58, 74, 89, 0), (89, 91, 89, 0)])
theorem nX1_isNeeded : aNoMH yX1_isNeeded 1 := by decide +kernel
theorem pX1_isNeeded : plainFor yX1_isNeeded = true := plainFor_of_name (by decide +kernel)
abbrev mX1_appendText : aM := (yX1_appendText, cX1_appendText, 7, some Jvm.ClassFile.FieldType.int, [])
theorem nX1_appendText : aNoMH yX1_appendText 1 := by decide +kernel
theorem pX1_appendText : plainFor yX1_appendText = true := plainFor_of_name (by decide +kernel)
abbrev mX1_execute : aM := (yX1_execute, cX1_execute, 5, some Jvm.ClassFile.FieldType.int, [])
theorem nX1_execute : aNoMH yX1_execute 1 := by decide +kernel
theorem pX1_execute : plainFor yX1_execute = true := plainFor_of_name (by decide +kernel)
abbrev mX1_succeeds : aM := (yX1_succeeds, cX1_succeeds, 3, some Jvm.ClassFile.FieldType.boolean, [(0, 7, 8, 1), (0, 7, 8, 7), (0, 7, 8, 10)])
theorem nX1_succeeds : aNoMH yX1_succeeds 1 := by decide +kernel
theorem pX1_succeeds : plainFor yX1_succeeds = true := plainFor_of_name (by decide +kernel)
abbrev mX1_runText : aM := (yX1_runText, cX1_runText, 3, some Jvm.ClassFile.FieldType.int, [])
theorem nX1_runText : aNoMH yX1_runText 0 := by decide +kernel
theorem pX1_runText : plainFor yX1_runText = true := plainFor_of_name (by decide +kernel)
abbrev mX1_undo : aM := (yX1_undo, cX1_undo, 1, some Jvm.ClassFile.FieldType.int, [])
theorem nX1_undo : aNoMH yX1_undo 0 := by decide +kernel
theorem pX1_undo : plainFor yX1_undo = true := plainFor_of_name (by decide +kernel)
abbrev mX1_saveState : aM := (yX1_saveState, cX1_saveState, 2, some Jvm.ClassFile.FieldType.int, [])
theorem nX1_saveState : aNoMH yX1_saveState 1 := by decide +kernel
theorem pX1_saveState : plainFor yX1_saveState = true := plainFor_of_name (by decide +kernel)
abbrev mX1_loadState : aM := (yX1_loadState, cX1_loadState, 2, some Jvm.ClassFile.FieldType.int, [])
theorem nX1_loadState : aNoMH yX1_loadState 1 := by decide +kernel
theorem pX1_loadState : plainFor yX1_loadState = true := plainFor_of_name (by decide +kernel)
abbrev mX6_init : aM := (yX6_init, cX6_init, 1, none, [])
theorem nX6_init : aNoMH yX6_init 0 := by decide +kernel
theorem pX6_init : plainFor yX6_init = true := plainFor_of_name (by decide +kernel)
abbrev mX0_start : aM := (yX0_start, cX0_start, 5, some Jvm.ClassFile.FieldType.int, [(0, 10, 13, 13)])
theorem nX0_start : aNoMH yX0_start 4 := by decide +kernel
theorem pX0_start : plainFor yX0_start = true := plainFor_of_name (by decide +kernel)
abbrev mX0_setTelling : aM := (yX0_setTelling, cX0_setTelling, 6, some Jvm.ClassFile.FieldType.int, [(0, 12, 15, 19), (0, 12, 19, 13)])
theorem nX0_setTelling : aNoMH yX0_setTelling 5 := by decide +kernel
theorem pX0_setTelling : plainFor yX0_setTelling = true := plainFor_of_name (by decide +kernel)
abbrev mX0_clearTelling : aM := (yX0_clearTelling, cX0_clearTelling, 4, some Jvm.ClassFile.FieldType.int, [(0, 9, 12, 19), (0, 9, 15, 25)])
theorem nX0_clearTelling : aNoMH yX0_clearTelling 3 := by decide +kernel
theorem pX0_clearTelling : plainFor yX0_clearTelling = true := plainFor_of_name (by decide +kernel)
abbrev mX0_exchange : aM := (yX0_exchange, cX0_exchange, 5, some Jvm.ClassFile.FieldType.int, [(0, 10, 13, 13)])
theorem nX0_exchange : aNoMH yX0_exchange 4 := by decide +kernel
theorem pX0_exchange : plainFor yX0_exchange = true := plainFor_of_name (by decide +kernel)
abbrev mX0_tellingAt : aM := (yX0_tellingAt, cX0_tellingAt, 4, some Jvm.ClassFile.FieldType.int, [(0, 9, 12, 19)])
theorem nX0_tellingAt : aNoMH yX0_tellingAt 3 := by decide +kernel
theorem pX0_tellingAt : plainFor yX0_tellingAt = true := plainFor_of_name (by decide +kernel)
abbrev mX0_isSecond : aM := (yX0_isSecond, cX0_isSecond, 4, some Jvm.ClassFile.FieldType.int, [(0, 16, 19, 19)])
theorem nX0_isSecond : aNoMH yX0_isSecond 3 := by decide +kernel
theorem pX0_isSecond : plainFor yX0_isSecond = true := plainFor_of_name (by decide +kernel)
abbrev mX0_cellOf : aM := (yX0_cellOf, cX0_cellOf, 5, some Jvm.ClassFile.FieldType.int, [(0, 10, 13, 19)])
theorem nX0_cellOf : aNoMH yX0_cellOf 4 := by decide +kernel
theorem pX0_cellOf : plainFor yX0_cellOf = true := plainFor_of_name (by decide +kernel)
abbrev mX0_put : aM := (yX0_put, cX0_put, 5, some Jvm.ClassFile.FieldType.int, [(0, 10, 13, 19), (0, 10, 17, 13)])
theorem nX0_put : aNoMH yX0_put 4 := by decide +kernel
theorem pX0_put : plainFor yX0_put = true := plainFor_of_name (by decide +kernel)
abbrev mX0_crossOut : aM := (yX0_crossOut, cX0_crossOut, 5, some Jvm.ClassFile.FieldType.int, [(0, 10, 13, 19), (0, 10, 17, 13), (0, 10, 21, 25)])
theorem nX0_crossOut : aNoMH yX0_crossOut 4 := by decide +kernel
theorem pX0_crossOut : plainFor yX0_crossOut = true := plainFor_of_name (by decide +kernel)
abbrev mX0_thingsOf : aM := (yX0_thingsOf, cX0_thingsOf, 4, some Jvm.ClassFile.FieldType.int, [(0, 9, 12, 19)])
theorem nX0_thingsOf : aNoMH yX0_thingsOf 3 := by decide +kernel
theorem pX0_thingsOf : plainFor yX0_thingsOf = true := plainFor_of_name (by decide +kernel)
abbrev mX0_cellsWith : aM := (yX0_cellsWith, cX0_cellsWith, 4, some Jvm.ClassFile.FieldType.int, [(0, 8, 11, 13)])
theorem nX0_cellsWith : aNoMH yX0_cellsWith 3 := by decide +kernel
theorem pX0_cellsWith : plainFor yX0_cellsWith = true := plainFor_of_name (by decide +kernel)
abbrev mX0_arrangements : aM := (yX0_arrangements, cX0_arrangements, 4, some Jvm.ClassFile.FieldType.int, [(0, 9, 12, 19)])
theorem nX0_arrangements : aNoMH yX0_arrangements 3 := by decide +kernel
theorem pX0_arrangements : plainFor yX0_arrangements = true := plainFor_of_name (by decide +kernel)
abbrev mX0_arrangementsByCells : aM := (yX0_arrangementsByCells, cX0_arrangementsByCells, 4, some Jvm.ClassFile.FieldType.int, [(0, 9, 12, 19)])
theorem nX0_arrangementsByCells : aNoMH yX0_arrangementsByCells 3 := by decide +kernel
theorem pX0_arrangementsByCells : plainFor yX0_arrangementsByCells = true := plainFor_of_name (by decide +kernel)
abbrev mX0_thingsIn : aM := (yX0_thingsIn, cX0_thingsIn, 5, some Jvm.ClassFile.FieldType.int, [(0, 10, 13, 19)])
theorem nX0_thingsIn : aNoMH yX0_thingsIn 4 := by decide +kernel
theorem pX0_thingsIn : plainFor yX0_thingsIn = true := plainFor_of_name (by decide +kernel)
abbrev mX0_seenFrom : aM := (yX0_seenFrom, cX0_seenFrom, 5, some Jvm.ClassFile.FieldType.int, [(0, 10, 13, 19)])
theorem nX0_seenFrom : aNoMH yX0_seenFrom 4 := by decide +kernel
theorem pX0_seenFrom : plainFor yX0_seenFrom = true := plainFor_of_name (by decide +kernel)
abbrev mX0_reasonFor : aM := (yX0_reasonFor, cX0_reasonFor, 5, some Jvm.ClassFile.FieldType.int, [(0, 10, 13, 19), (0, 10, 17, 13)])
theorem nX0_reasonFor : aNoMH yX0_reasonFor 4 := by decide +kernel
theorem pX0_reasonFor : plainFor yX0_reasonFor = true := plainFor_of_name (by decide +kernel)
abbrev mX0_step : aM := (yX0_step, cX0_step, 3, some Jvm.ClassFile.FieldType.int, [(0, 8, 11, 25)])
theorem nX0_step : aNoMH yX0_step 2 := by decide +kernel
theorem pX0_step : plainFor yX0_step = true := plainFor_of_name (by decide +kernel)
abbrev mX0_stepAll : aM := (yX0_stepAll, cX0_stepAll, 4, some Jvm.ClassFile.FieldType.int, [(0, 9, 12, 13)])
theorem nX0_stepAll : aNoMH yX0_stepAll 3 := by decide +kernel
theorem pX0_stepAll : plainFor yX0_stepAll = true := plainFor_of_name (by decide +kernel)
abbrev mX0_stepsUpTo : aM := (yX0_stepsUpTo, cX0_stepsUpTo, 4, some Jvm.ClassFile.FieldType.int, [(0, 9, 12, 13)])
theorem nX0_stepsUpTo : aNoMH yX0_stepsUpTo 3 := by decide +kernel
theorem pX0_stepsUpTo : plainFor yX0_stepsUpTo = true := plainFor_of_name (by decide +kernel)
abbrev mX0_firstThing : aM := (yX0_firstThing, cX0_firstThing, 4, some Jvm.ClassFile.FieldType.int, [(0, 9, 12, 19)])
theorem nX0_firstThing : aNoMH yX0_firstThing 3 := by decide +kernel
theorem pX0_firstThing : plainFor yX0_firstThing = true := plainFor_of_name (by decide +kernel)
abbrev mX0_isNeeded : aM := (yX0_isNeeded, cX0_isNeeded, 4, some Jvm.ClassFile.FieldType.int, [(0, 16, 19, 19), (0, 16, 22, 25)])
theorem nX0_isNeeded : aNoMH yX0_isNeeded 3 := by decide +kernel
theorem pX0_isNeeded : plainFor yX0_isNeeded = true := plainFor_of_name (by decide +kernel)
abbrev mX0_appendText : aM := (yX0_appendText, cX0_appendText, 5, some Jvm.ClassFile.FieldType.int, [(0, 9, 12, 13), (0, 9, 16, 25)])
theorem nX0_appendText : aNoMH yX0_appendText 3 := by decide +kernel
theorem pX0_appendText : plainFor yX0_appendText = true := plainFor_of_name (by decide +kernel)
abbrev mX0_runText : aM := (yX0_runText, cX0_runText, 3, some Jvm.ClassFile.FieldType.int, [(0, 8, 11, 25)])
theorem nX0_runText : aNoMH yX0_runText 2 := by decide +kernel
theorem pX0_runText : plainFor yX0_runText = true := plainFor_of_name (by decide +kernel)
abbrev mX0_undo : aM := (yX0_undo, cX0_undo, 3, some Jvm.ClassFile.FieldType.int, [(0, 8, 11, 25)])
theorem nX0_undo : aNoMH yX0_undo 2 := by decide +kernel
theorem pX0_undo : plainFor yX0_undo = true := plainFor_of_name (by decide +kernel)
abbrev mX0_saveState : aM := (yX0_saveState, cX0_saveState, 4, some Jvm.ClassFile.FieldType.int, [(0, 9, 12, 19)])
theorem nX0_saveState : aNoMH yX0_saveState 3 := by decide +kernel
theorem pX0_saveState : plainFor yX0_saveState = true := plainFor_of_name (by decide +kernel)
abbrev mX0_loadState : aM := (yX0_loadState, cX0_loadState, 4, some Jvm.ClassFile.FieldType.int, [(0, 9, 12, 19), (0, 9, 15, 25)])
theorem nX0_loadState : aNoMH yX0_loadState 3 := by decide +kernel
theorem pX0_loadState : plainFor yX0_loadState = true := plainFor_of_name (by decide +kernel)
abbrev mL_law : aM := (x, cL_law, 9, some Jvm.ClassFile.FieldType.boolean, [])
theorem nL_law : aNoMH x 1 := by decide +kernel
theorem pL_law : plainFor x = true := plainFor_of_name (by decide +kernel)
