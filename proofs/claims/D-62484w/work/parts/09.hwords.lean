abbrev b_x_ASB_init : ByteArray := prog_9_method_2_code
def y_x_ASB_init : MethodName := ⟨"java/lang/AbstractStringBuilder", "<init>", "(I)V"⟩
theorem ok_x_ASB_init : cOK y_x_ASB_init 1 := ⟨by decide +kernel, by decide +kernel, by decide +kernel⟩
abbrev b_x_Math_max : ByteArray := prog_13_method_65_code
def y_x_Math_max : MethodName := ⟨"java/lang/Math", "max", "(II)I"⟩
theorem ok_x_Math_max : cOK y_x_Math_max 2 := ⟨by decide +kernel, by decide +kernel, by decide +kernel⟩
abbrev b_x_AS_newLength : ByteArray := prog_20_method_27_code
def y_x_AS_newLength : MethodName := ⟨"jdk/internal/util/ArraysSupport", "newLength", "(III)I"⟩
theorem ok_x_AS_newLength : cOK y_x_AS_newLength 3 := ⟨by decide +kernel, by decide +kernel, by decide +kernel⟩
abbrev b_x_ASB_newCapacity : ByteArray := prog_9_method_10_code
def y_x_ASB_newCapacity : MethodName := ⟨"java/lang/AbstractStringBuilder", "newCapacity", "(I)I"⟩
theorem ok_x_ASB_newCapacity : cOK y_x_ASB_newCapacity 1 := ⟨by decide +kernel, by decide +kernel, by decide +kernel⟩
abbrev b_x_Math_min : ByteArray := prog_13_method_69_code
def y_x_Math_min : MethodName := ⟨"java/lang/Math", "min", "(II)I"⟩
theorem ok_x_Math_min : cOK y_x_Math_min 2 := ⟨by decide +kernel, by decide +kernel, by decide +kernel⟩
abbrev b_x_Arr_copyOf : ByteArray := prog_19_method_121_code
def y_x_Arr_copyOf : MethodName := ⟨"java/util/Arrays", "copyOf", "([BI)[B"⟩
theorem ok_x_Arr_copyOf : cOK y_x_Arr_copyOf 2 := ⟨by decide +kernel, by decide +kernel, by decide +kernel⟩
abbrev b_x_ASB_ensureCapacityInternal : ByteArray := prog_9_method_9_code
def y_x_ASB_ensureCapacityInternal : MethodName := ⟨"java/lang/AbstractStringBuilder", "ensureCapacityInternal", "(I)V"⟩
theorem ok_x_ASB_ensureCapacityInternal : cOK y_x_ASB_ensureCapacityInternal 1 := ⟨by decide +kernel, by decide +kernel, by decide +kernel⟩
abbrev b_x_ASB_isLatin1 : ByteArray := prog_9_method_68_code
def y_x_ASB_isLatin1 : MethodName := ⟨"java/lang/AbstractStringBuilder", "isLatin1", "()Z"⟩
theorem ok_x_ASB_isLatin1 : cOK y_x_ASB_isLatin1 0 := ⟨by decide +kernel, by decide +kernel, by decide +kernel⟩
abbrev b_x_L1_canEncode : ByteArray := prog_16_method_3_code
def y_x_L1_canEncode : MethodName := ⟨"java/lang/StringLatin1", "canEncode", "(C)Z"⟩
theorem ok_x_L1_canEncode : cOK y_x_L1_canEncode 1 := ⟨by decide +kernel, by decide +kernel, by decide +kernel⟩
abbrev b_x_ASB_append : ByteArray := prog_9_method_31_code
def y_x_ASB_append : MethodName := ⟨"java/lang/AbstractStringBuilder", "append", "(C)Ljava/lang/AbstractStringBuilder;"⟩
theorem ok_x_ASB_append : cOK y_x_ASB_append 1 := ⟨by decide +kernel, by decide +kernel, by decide +kernel⟩
abbrev b_x_ASB_getValue : ByteArray := prog_9_method_64_code
def y_x_ASB_getValue : MethodName := ⟨"java/lang/AbstractStringBuilder", "getValue", "()[B"⟩
theorem ok_x_ASB_getValue : cOK y_x_ASB_getValue 0 := ⟨by decide +kernel, by decide +kernel, by decide +kernel⟩
abbrev b_x_ASB_length : ByteArray := prog_9_method_6_code
def y_x_ASB_length : MethodName := ⟨"java/lang/AbstractStringBuilder", "length", "()I"⟩
theorem ok_x_ASB_length : cOK y_x_ASB_length 0 := ⟨by decide +kernel, by decide +kernel, by decide +kernel⟩
abbrev b_x_ASB_setLength : ByteArray := prog_9_method_13_code
def y_x_ASB_setLength : MethodName := ⟨"java/lang/AbstractStringBuilder", "setLength", "(I)V"⟩
theorem ok_x_ASB_setLength : cOK y_x_ASB_setLength 1 := ⟨by decide +kernel, by decide +kernel, by decide +kernel⟩
abbrev b_x_SB_init : ByteArray := prog_15_method_1_code
def y_x_SB_init : MethodName := ⟨"java/lang/StringBuilder", "<init>", "()V"⟩
theorem ok_x_SB_init : cOK y_x_SB_init 0 := ⟨by decide +kernel, by decide +kernel, by decide +kernel⟩
abbrev b_x_SB_append : ByteArray := prog_15_method_14_code
def y_x_SB_append : MethodName := ⟨"java/lang/StringBuilder", "append", "(C)Ljava/lang/StringBuilder;"⟩
theorem ok_x_SB_append : cOK y_x_SB_append 1 := ⟨by decide +kernel, by decide +kernel, by decide +kernel⟩
abbrev b_x_SB_length : ByteArray := prog_15_method_93_code
def y_x_SB_length : MethodName := ⟨"java/lang/StringBuilder", "length", "()I"⟩
theorem ok_x_SB_length : cOK y_x_SB_length 0 := ⟨by decide +kernel, by decide +kernel, by decide +kernel⟩
abbrev b_x_SB_setLength : ByteArray := prog_15_method_89_code
def y_x_SB_setLength : MethodName := ⟨"java/lang/StringBuilder", "setLength", "(I)V"⟩
theorem ok_x_SB_setLength : cOK y_x_SB_setLength 1 := ⟨by decide +kernel, by decide +kernel, by decide +kernel⟩
abbrev b_x_Arr_checkLength : ByteArray := prog_19_method_131_code
def y_x_Arr_checkLength : MethodName := ⟨"java/util/Arrays", "checkLength", "(II)V"⟩
theorem ok_x_Arr_checkLength : cOK y_x_Arr_checkLength 2 := ⟨by decide +kernel, by decide +kernel, by decide +kernel⟩
abbrev b_x_Arr_copyOfRangeByte : ByteArray := prog_19_method_133_code
def y_x_Arr_copyOfRangeByte : MethodName := ⟨"java/util/Arrays", "copyOfRangeByte", "([BII)[B"⟩
theorem ok_x_Arr_copyOfRangeByte : cOK y_x_Arr_copyOfRangeByte 3 := ⟨by decide +kernel, by decide +kernel, by decide +kernel⟩
abbrev b_x_Arr_copyOfRange : ByteArray := prog_19_method_132_code
def y_x_Arr_copyOfRange : MethodName := ⟨"java/util/Arrays", "copyOfRange", "([BII)[B"⟩
theorem ok_x_Arr_copyOfRange : cOK y_x_Arr_copyOfRange 3 := ⟨by decide +kernel, by decide +kernel, by decide +kernel⟩
abbrev b_x_Str_init2 : ByteArray := prog_14_method_150_code
def y_x_Str_init2 : MethodName := ⟨"java/lang/String", "<init>", "(Ljava/lang/AbstractStringBuilder;Ljava/lang/Void;)V"⟩
theorem ok_x_Str_init2 : cOK y_x_Str_init2 2 := ⟨by decide +kernel, by decide +kernel, by decide +kernel⟩
abbrev b_x_Str_init : ByteArray := prog_14_method_53_code
def y_x_Str_init : MethodName := ⟨"java/lang/String", "<init>", "(Ljava/lang/StringBuilder;)V"⟩
theorem ok_x_Str_init : cOK y_x_Str_init 1 := ⟨by decide +kernel, by decide +kernel, by decide +kernel⟩
abbrev b_x_SB_toString : ByteArray := prog_15_method_42_code
def y_x_SB_toString : MethodName := ⟨"java/lang/StringBuilder", "toString", "()Ljava/lang/String;"⟩
theorem ok_x_SB_toString : cOK y_x_SB_toString 0 := ⟨by decide +kernel, by decide +kernel, by decide +kernel⟩
abbrev b_x_Str_isLatin1 : ByteArray := prog_14_method_154_code
def y_x_Str_isLatin1 : MethodName := ⟨"java/lang/String", "isLatin1", "()Z"⟩
theorem ok_x_Str_isLatin1 : cOK y_x_Str_isLatin1 0 := ⟨by decide +kernel, by decide +kernel, by decide +kernel⟩
abbrev b_x_Pre_checkIndex : ByteArray := prog_21_method_11_code
def y_x_Pre_checkIndex : MethodName := ⟨"jdk/internal/util/Preconditions", "checkIndex", "(IILjava/util/function/BiFunction;)I"⟩
theorem ok_x_Pre_checkIndex : cOK y_x_Pre_checkIndex 3 := ⟨by decide +kernel, by decide +kernel, by decide +kernel⟩
abbrev b_x_Str_checkIndex : ByteArray := prog_14_method_155_code
def y_x_Str_checkIndex : MethodName := ⟨"java/lang/String", "checkIndex", "(II)V"⟩
theorem ok_x_Str_checkIndex : cOK y_x_Str_checkIndex 2 := ⟨by decide +kernel, by decide +kernel, by decide +kernel⟩
abbrev b_x_L1_charAt : ByteArray := prog_16_method_2_code
def y_x_L1_charAt : MethodName := ⟨"java/lang/StringLatin1", "charAt", "([BI)C"⟩
theorem ok_x_L1_charAt : cOK y_x_L1_charAt 2 := ⟨by decide +kernel, by decide +kernel, by decide +kernel⟩
abbrev b_x_Str_charAt : ByteArray := prog_14_method_56_code
def y_x_Str_charAt : MethodName := ⟨"java/lang/String", "charAt", "(I)C"⟩
theorem ok_x_Str_charAt : cOK y_x_Str_charAt 1 := ⟨by decide +kernel, by decide +kernel, by decide +kernel⟩
abbrev b_x_Str_coder : ByteArray := prog_14_method_152_code
def y_x_Str_coder : MethodName := ⟨"java/lang/String", "coder", "()B"⟩
theorem ok_x_Str_coder : cOK y_x_Str_coder 0 := ⟨by decide +kernel, by decide +kernel, by decide +kernel⟩
abbrev b_x_L1_equals : ByteArray := prog_16_method_13_code
def y_x_L1_equals : MethodName := ⟨"java/lang/StringLatin1", "equals", "([B[B)Z"⟩
theorem ok_x_L1_equals : cOK y_x_L1_equals 2 := ⟨by decide +kernel, by decide +kernel, by decide +kernel⟩
abbrev b_x_Str_equals : ByteArray := prog_14_method_66_code
def y_x_Str_equals : MethodName := ⟨"java/lang/String", "equals", "(Ljava/lang/Object;)Z"⟩
theorem ok_x_Str_equals : cOK y_x_Str_equals 1 := ⟨by decide +kernel, by decide +kernel, by decide +kernel⟩
abbrev b_x_Str_length : ByteArray := prog_14_method_54_code
def y_x_Str_length : MethodName := ⟨"java/lang/String", "length", "()I"⟩
theorem ok_x_Str_length : cOK y_x_Str_length 0 := ⟨by decide +kernel, by decide +kernel, by decide +kernel⟩
abbrev b_x_L1_canEncodeI : ByteArray := prog_16_method_4_code
def y_x_L1_canEncodeI : MethodName := ⟨"java/lang/StringLatin1", "canEncode", "(I)Z"⟩
theorem ok_x_L1_canEncodeI : cOK y_x_L1_canEncodeI 1 := ⟨by decide +kernel, by decide +kernel, by decide +kernel⟩
abbrev b_x_L1_indexOfChar : ByteArray := prog_16_method_23_code
def y_x_L1_indexOfChar : MethodName := ⟨"java/lang/StringLatin1", "indexOfChar", "([BIII)I"⟩
theorem ok_x_L1_indexOfChar : cOK y_x_L1_indexOfChar 4 := ⟨by decide +kernel, by decide +kernel, by decide +kernel⟩
abbrev b_x_L1_indexOf : ByteArray := prog_16_method_22_code
def y_x_L1_indexOf : MethodName := ⟨"java/lang/StringLatin1", "indexOf", "([BIII)I"⟩
theorem ok_x_L1_indexOf : cOK y_x_L1_indexOf 4 := ⟨by decide +kernel, by decide +kernel, by decide +kernel⟩
abbrev b_x_Str_indexOf2 : ByteArray := prog_14_method_80_code
def y_x_Str_indexOf2 : MethodName := ⟨"java/lang/String", "indexOf", "(II)I"⟩
theorem ok_x_Str_indexOf2 : cOK y_x_Str_indexOf2 2 := ⟨by decide +kernel, by decide +kernel, by decide +kernel⟩
abbrev b_x_Str_indexOf : ByteArray := prog_14_method_79_code
def y_x_Str_indexOf : MethodName := ⟨"java/lang/String", "indexOf", "(I)I"⟩
theorem ok_x_Str_indexOf : cOK y_x_Str_indexOf 1 := ⟨by decide +kernel, by decide +kernel, by decide +kernel⟩
abbrev b_x_Math_floorMod : ByteArray := prog_13_method_50_code
def y_x_Math_floorMod : MethodName := ⟨"java/lang/Math", "floorMod", "(II)I"⟩
theorem ok_x_Math_floorMod : cOK y_x_Math_floorMod 2 := ⟨by decide +kernel, by decide +kernel, by decide +kernel⟩
abbrev b_x_Enum_ordinal : ByteArray := prog_12_method_2_code
def y_x_Enum_ordinal : MethodName := ⟨"java/lang/Enum", "ordinal", "()I"⟩
theorem ok_x_Enum_ordinal : cOK y_x_Enum_ordinal 0 := ⟨by decide +kernel, by decide +kernel, by decide +kernel⟩
abbrev b_x_Rdr_init : ByteArray := prog_6_method_1_code
def y_x_Rdr_init : MethodName := ⟨"NoteSheet$Reader", "<init>", "()V"⟩
theorem ok_x_Rdr_init : cOK y_x_Rdr_init 0 := ⟨by decide +kernel, by decide +kernel, by decide +kernel⟩
abbrev b_x_Cell_init : ByteArray := prog_2_method_1_code
def y_x_Cell_init : MethodName := ⟨"NoteSheet$Cell", "<init>", "(I)V"⟩
theorem ok_x_Cell_init : cOK y_x_Cell_init 1 := ⟨by decide +kernel, by decide +kernel, by decide +kernel⟩
abbrev b_x_NS_init : ByteArray := prog_1_method_1_code
def y_x_NS_init : MethodName := ⟨"NoteSheet", "<init>", "(I)V"⟩
theorem ok_x_NS_init : cOK y_x_NS_init 1 := ⟨by decide +kernel, by decide +kernel, by decide +kernel⟩
abbrev b_x_NS_type : ByteArray := prog_1_method_2_code
def y_x_NS_type : MethodName := ⟨"NoteSheet", "type", "(C)Z"⟩
theorem ok_x_NS_type : cOK y_x_NS_type 1 := ⟨by decide +kernel, by decide +kernel, by decide +kernel⟩
abbrev b_x_NS_cell : ByteArray := prog_1_method_3_code
def y_x_NS_cell : MethodName := ⟨"NoteSheet", "cell", "(I)LNoteSheet$Cell;"⟩
theorem ok_x_NS_cell : cOK y_x_NS_cell 1 := ⟨by decide +kernel, by decide +kernel, by decide +kernel⟩
abbrev b_x_NS_change : ByteArray := prog_1_method_4_code
def y_x_NS_change : MethodName := ⟨"NoteSheet", "change", "(I)V"⟩
theorem ok_x_NS_change : cOK y_x_NS_change 1 := ⟨by decide +kernel, by decide +kernel, by decide +kernel⟩
abbrev b_x_Rdr_peek : ByteArray := prog_6_method_2_code
def y_x_Rdr_peek : MethodName := ⟨"NoteSheet$Reader", "peek", "()C"⟩
theorem ok_x_Rdr_peek : cOK y_x_Rdr_peek 0 := ⟨by decide +kernel, by decide +kernel, by decide +kernel⟩
abbrev b_x_Rdr_takes : ByteArray := prog_6_method_3_code
def y_x_Rdr_takes : MethodName := ⟨"NoteSheet$Reader", "takes", "(C)Z"⟩
theorem ok_x_Rdr_takes : cOK y_x_Rdr_takes 1 := ⟨by decide +kernel, by decide +kernel, by decide +kernel⟩
abbrev b_x_Rdr_put : ByteArray := prog_6_method_4_code
def y_x_Rdr_put : MethodName := ⟨"NoteSheet$Reader", "put", "(LNoteSheet$Op;I)I"⟩
theorem ok_x_Rdr_put : cOK y_x_Rdr_put 2 := ⟨by decide +kernel, by decide +kernel, by decide +kernel⟩
abbrev b_x_Rdr_need : ByteArray := prog_6_method_5_code
def y_x_Rdr_need : MethodName := ⟨"NoteSheet$Reader", "need", "(C)V"⟩
theorem ok_x_Rdr_need : cOK y_x_Rdr_need 1 := ⟨by decide +kernel, by decide +kernel, by decide +kernel⟩
abbrev b_x_Rdr_formula : ByteArray := prog_6_method_6_code
def y_x_Rdr_formula : MethodName := ⟨"NoteSheet$Reader", "formula", "(I)V"⟩
theorem ok_x_Rdr_formula : cOK y_x_Rdr_formula 1 := ⟨by decide +kernel, by decide +kernel, by decide +kernel⟩
abbrev b_x_Form_init : ByteArray := prog_3_method_1_code
def y_x_Form_init : MethodName := ⟨"NoteSheet$Formula", "<init>", "(Ljava/lang/String;[LNoteSheet$Op;[II)V"⟩
theorem ok_x_Form_init : cOK y_x_Form_init 4 := ⟨by decide +kernel, by decide +kernel, by decide +kernel⟩
abbrev b_x_NS_set : ByteArray := prog_1_method_6_code
def y_x_NS_set : MethodName := ⟨"NoteSheet", "set", "(III)Z"⟩
theorem ok_x_NS_set : cOK y_x_NS_set 3 := ⟨by decide +kernel, by decide +kernel, by decide +kernel⟩
abbrev b_x_NS_bring : ByteArray := prog_1_method_7_code
def y_x_NS_bring : MethodName := ⟨"NoteSheet", "bring", "(LNoteSheet$Cell;)V"⟩
theorem ok_x_NS_bring : cOK y_x_NS_bring 1 := ⟨by decide +kernel, by decide +kernel, by decide +kernel⟩
abbrev b_x_Cell_sinceWhen : ByteArray := prog_2_method_2_code
def y_x_Cell_sinceWhen : MethodName := ⟨"NoteSheet$Cell", "sinceWhen", "()I"⟩
theorem ok_x_Cell_sinceWhen : cOK y_x_Cell_sinceWhen 0 := ⟨by decide +kernel, by decide +kernel, by decide +kernel⟩
abbrev b_x_Cell_steady : ByteArray := prog_2_method_3_code
def y_x_Cell_steady : MethodName := ⟨"NoteSheet$Cell", "steady", "()I"⟩
theorem ok_x_Cell_steady : cOK y_x_Cell_steady 0 := ⟨by decide +kernel, by decide +kernel, by decide +kernel⟩
abbrev b_x_NS_unchanged : ByteArray := prog_1_method_8_code
def y_x_NS_unchanged : MethodName := ⟨"NoteSheet", "unchanged", "(LNoteSheet$Note;)Z"⟩
theorem ok_x_NS_unchanged : cOK y_x_NS_unchanged 1 := ⟨by decide +kernel, by decide +kernel, by decide +kernel⟩
abbrev b_x_Note_init : ByteArray := prog_4_method_1_code
def y_x_Note_init : MethodName := ⟨"NoteSheet$Note", "<init>", "()V"⟩
theorem ok_x_Note_init : cOK y_x_Note_init 0 := ⟨by decide +kernel, by decide +kernel, by decide +kernel⟩
abbrev b_x_NS_workOut : ByteArray := prog_1_method_9_code
def y_x_NS_workOut : MethodName := ⟨"NoteSheet", "workOut", "(LNoteSheet$Cell;)V"⟩
theorem ok_x_NS_workOut : cOK y_x_NS_workOut 1 := ⟨by decide +kernel, by decide +kernel, by decide +kernel⟩
abbrev b_x_Note_add : ByteArray := prog_4_method_2_code
def y_x_Note_add : MethodName := ⟨"NoteSheet$Note", "add", "(LNoteSheet$Cell;)V"⟩
theorem ok_x_Note_add : cOK y_x_Note_add 1 := ⟨by decide +kernel, by decide +kernel, by decide +kernel⟩
abbrev b_x_NS_given : ByteArray := prog_1_method_10_code
def y_x_NS_given : MethodName := ⟨"NoteSheet", "given", "(LNoteSheet$Cell;LNoteSheet$Note;)J"⟩
theorem ok_x_NS_given : cOK y_x_NS_given 2 := ⟨by decide +kernel, by decide +kernel, by decide +kernel⟩
abbrev b_x_NS_value : ByteArray := prog_1_method_11_code
def y_x_NS_value : MethodName := ⟨"NoteSheet", "value", "(LNoteSheet$Cell;)J"⟩
theorem ok_x_NS_value : cOK y_x_NS_value 1 := ⟨by decide +kernel, by decide +kernel, by decide +kernel⟩
abbrev b_x_NS_both : ByteArray := prog_1_method_13_code
def y_x_NS_both : MethodName := ⟨"NoteSheet", "both", "(LNoteSheet$Op;JJ)J"⟩
theorem ok_x_NS_both : cOK y_x_NS_both 3 := ⟨by decide +kernel, by decide +kernel, by decide +kernel⟩
abbrev b_x_NS_result : ByteArray := prog_1_method_12_code
def y_x_NS_result : MethodName := ⟨"NoteSheet", "result", "(LNoteSheet$Formula;LNoteSheet$Note;)J"⟩
theorem ok_x_NS_result : cOK y_x_NS_result 2 := ⟨by decide +kernel, by decide +kernel, by decide +kernel⟩
abbrev b_x_NS_held : ByteArray := prog_1_method_14_code
def y_x_NS_held : MethodName := ⟨"NoteSheet", "held", "()I"⟩
theorem ok_x_NS_held : cOK y_x_NS_held 0 := ⟨by decide +kernel, by decide +kernel, by decide +kernel⟩
abbrev b_x_NS_dropOne : ByteArray := prog_1_method_15_code
def y_x_NS_dropOne : MethodName := ⟨"NoteSheet", "dropOne", "()V"⟩
theorem ok_x_NS_dropOne : cOK y_x_NS_dropOne 0 := ⟨by decide +kernel, by decide +kernel, by decide +kernel⟩
abbrev b_x_NS_revision : ByteArray := prog_1_method_17_code
def y_x_NS_revision : MethodName := ⟨"NoteSheet", "revision", "()I"⟩
theorem ok_x_NS_revision : cOK y_x_NS_revision 0 := ⟨by decide +kernel, by decide +kernel, by decide +kernel⟩
abbrev b_x_NS_changed : ByteArray := prog_1_method_18_code
def y_x_NS_changed : MethodName := ⟨"NoteSheet", "changed", "(I)I"⟩
theorem ok_x_NS_changed : cOK y_x_NS_changed 1 := ⟨by decide +kernel, by decide +kernel, by decide +kernel⟩
abbrev b_x_NS_note : ByteArray := prog_1_method_19_code
def y_x_NS_note : MethodName := ⟨"NoteSheet", "note", "(II)I"⟩
theorem ok_x_NS_note : cOK y_x_NS_note 2 := ⟨by decide +kernel, by decide +kernel, by decide +kernel⟩
abbrev b_x_NS_read : ByteArray := prog_1_method_20_code
def y_x_NS_read : MethodName := ⟨"NoteSheet", "read", "(II)I"⟩
theorem ok_x_NS_read : cOK y_x_NS_read 2 := ⟨by decide +kernel, by decide +kernel, by decide +kernel⟩
abbrev b_x_NS_count : ByteArray := prog_1_method_21_code
def y_x_NS_count : MethodName := ⟨"NoteSheet", "count", "(I)I"⟩
theorem ok_x_NS_count : cOK y_x_NS_count 1 := ⟨by decide +kernel, by decide +kernel, by decide +kernel⟩
abbrev b_x_Rdr_one : ByteArray := prog_6_method_7_code
def y_x_Rdr_one : MethodName := ⟨"NoteSheet$Reader", "one", "(I)V"⟩
theorem ok_x_Rdr_one : cOK y_x_Rdr_one 1 := ⟨by decide +kernel, by decide +kernel, by decide +kernel⟩
abbrev b_x_Rdr_comparison : ByteArray := prog_6_method_8_code
def y_x_Rdr_comparison : MethodName := ⟨"NoteSheet$Reader", "comparison", "(I)V"⟩
theorem ok_x_Rdr_comparison : cOK y_x_Rdr_comparison 1 := ⟨by decide +kernel, by decide +kernel, by decide +kernel⟩
abbrev b_x_Rdr_sum : ByteArray := prog_6_method_9_code
def y_x_Rdr_sum : MethodName := ⟨"NoteSheet$Reader", "sum", "(I)V"⟩
theorem ok_x_Rdr_sum : cOK y_x_Rdr_sum 1 := ⟨by decide +kernel, by decide +kernel, by decide +kernel⟩
abbrev b_x_Rdr_product : ByteArray := prog_6_method_10_code
def y_x_Rdr_product : MethodName := ⟨"NoteSheet$Reader", "product", "(I)V"⟩
theorem ok_x_Rdr_product : cOK y_x_Rdr_product 1 := ⟨by decide +kernel, by decide +kernel, by decide +kernel⟩
abbrev b_x_Rdr_unitIn : ByteArray := prog_6_method_11_code
def y_x_Rdr_unitIn : MethodName := ⟨"NoteSheet$Reader", "unitIn", "(I)V"⟩
theorem ok_x_Rdr_unitIn : cOK y_x_Rdr_unitIn 1 := ⟨by decide +kernel, by decide +kernel, by decide +kernel⟩
abbrev b_x_Rdr_unit : ByteArray := prog_6_method_12_code
def y_x_Rdr_unit : MethodName := ⟨"NoteSheet$Reader", "unit", "(I)V"⟩
theorem ok_x_Rdr_unit : cOK y_x_Rdr_unit 1 := ⟨by decide +kernel, by decide +kernel, by decide +kernel⟩
abbrev b_x_Mod_init : ByteArray := prog_8_method_1_code
def y_x_Mod_init : MethodName := ⟨"NoteSheetModel", "<init>", "(I)V"⟩
theorem ok_x_Mod_init : cOK y_x_Mod_init 1 := ⟨by decide +kernel, by decide +kernel, by decide +kernel⟩
abbrev b_x_Law_cell : ByteArray := method_2_code
def y_x_Law_cell : MethodName := ⟨"NoteSheetLaw", "cell", "([II)I"⟩
theorem ok_x_Law_cell : cOK y_x_Law_cell 2 := ⟨by decide +kernel, by decide +kernel, by decide +kernel⟩
abbrev b_x_Rdr_read : ByteArray := prog_6_method_13_code
def y_x_Rdr_read : MethodName := ⟨"NoteSheet$Reader", "read", "(Ljava/lang/String;)LNoteSheet$Formula;"⟩
theorem ok_x_Rdr_read : cOK y_x_Rdr_read 1 := ⟨by decide +kernel, by decide +kernel, by decide +kernel⟩
abbrev b_x_NS_define : ByteArray := prog_1_method_5_code
def y_x_NS_define : MethodName := ⟨"NoteSheet", "define", "(I)I"⟩
theorem ok_x_NS_define : cOK y_x_NS_define 1 := ⟨by decide +kernel, by decide +kernel, by decide +kernel⟩
abbrev b_x_NS_ask : ByteArray := prog_1_method_16_code
def y_x_NS_ask : MethodName := ⟨"NoteSheet", "ask", "(I)J"⟩
theorem ok_x_NS_ask : cOK y_x_NS_ask 1 := ⟨by decide +kernel, by decide +kernel, by decide +kernel⟩
theorem q_1 : (Jvm.Cond.initialized "NoteSheet") ∈ lw_g := in_t1 (i := 1) (by decide +kernel) rfl
theorem q_2 : (Jvm.Cond.initialized "java/lang/AbstractStringBuilder") ∈ lw_g := in_t1 (i := 2) (by decide +kernel) rfl
theorem q_3 : (Jvm.Cond.initialized "java/lang/StringBuilder") ∈ lw_g := in_t1 (i := 3) (by decide +kernel) rfl
theorem q_4 : (Jvm.Cond.initialized "java/lang/String") ∈ lw_g := in_t1 (i := 4) (by decide +kernel) rfl
theorem q_6 : (Jvm.Cond.initialized "NoteSheet$Reader") ∈ lw_g := in_t1 (i := 6) (by decide +kernel) rfl
theorem q_7 : (Jvm.Cond.initialized "NoteSheet$Cell") ∈ lw_g := in_t1 (i := 7) (by decide +kernel) rfl
theorem q_9 : (Jvm.Cond.initialized "java/lang/StringLatin1") ∈ lw_g := in_t1 (i := 9) (by decide +kernel) rfl
theorem q_10 : (Jvm.Cond.initialized "java/lang/Math") ∈ lw_g := in_t1 (i := 10) (by decide +kernel) rfl
theorem q_11 : (Jvm.Cond.initialized "jdk/internal/util/Preconditions") ∈ lw_g := in_t1 (i := 11) (by decide +kernel) rfl
theorem q_13 : (Jvm.Cond.initialized "jdk/internal/util/ArraysSupport") ∈ lw_g := in_t1 (i := 13) (by decide +kernel) rfl
theorem q_14 : (Jvm.Cond.initialized "java/util/Arrays") ∈ lw_g := in_t1 (i := 14) (by decide +kernel) rfl
theorem q_15 : (Jvm.Cond.initialized "java/lang/System") ∈ lw_g := in_t1 (i := 15) (by decide +kernel) rfl
theorem q_16 : (Jvm.Cond.initialized "java/lang/Enum") ∈ lw_g := in_t1 (i := 16) (by decide +kernel) rfl
theorem q_18 : (Jvm.Cond.initialized "NoteSheet$Formula") ∈ lw_g := in_t1 (i := 18) (by decide +kernel) rfl
theorem q_19 : (Jvm.Cond.initialized "NoteSheet$Note") ∈ lw_g := in_t1 (i := 19) (by decide +kernel) rfl
theorem q_25 : (Jvm.Cond.methodLink "NoteSheet" (1 : Nat) ({ cls := "java/lang/Object", name := "<init>", desc := "()V" } : Jvm.MethodName)) ∈ lw_g := in_t1 (i := 25) (by decide +kernel) rfl
theorem q_26 : (Jvm.Cond.instanceMethod ({ cls := "java/lang/Object", name := "<init>", desc := "()V" } : Jvm.MethodName)) ∈ lw_g := in_t1 (i := 26) (by decide +kernel) rfl
theorem q_27 : (Jvm.Cond.code ({ cls := "java/lang/Object", name := "<init>", desc := "()V" } : Jvm.MethodName) object_method_1_code (1 : Nat) (Option.none : Option Jvm.ClassFile.FieldType)) ∈ lw_g := in_t1 (i := 27) (by decide +kernel) rfl
theorem q_28 : (Jvm.Cond.classLink "NoteSheet" (9 : Nat) "NoteSheet$Cell") ∈ lw_g := in_t1 (i := 28) (by decide +kernel) rfl
theorem q_30 : (Jvm.Cond.classLink "NoteSheet" (15 : Nat) "java/lang/StringBuilder") ∈ lw_g := in_t1 (i := 30) (by decide +kernel) rfl
theorem q_31 : (Jvm.Cond.instantiable "java/lang/StringBuilder" (4 : Nat)) ∈ lw_g := in_t1 (i := 31) (by decide +kernel) rfl
theorem q_32 : (Jvm.Cond.methodLink "NoteSheet" (17 : Nat) ({ cls := "java/lang/StringBuilder", name := "<init>", desc := "()V" } : Jvm.MethodName)) ∈ lw_g := in_t1 (i := 32) (by decide +kernel) rfl
theorem q_33 : (Jvm.Cond.instanceMethod ({ cls := "java/lang/StringBuilder", name := "<init>", desc := "()V" } : Jvm.MethodName)) ∈ lw_g := in_t1 (i := 33) (by decide +kernel) rfl
theorem q_34 : (Jvm.Cond.code ({ cls := "java/lang/StringBuilder", name := "<init>", desc := "()V" } : Jvm.MethodName) prog_15_method_1_code (1 : Nat) (Option.none : Option Jvm.ClassFile.FieldType)) ∈ lw_g := in_t1 (i := 34) (by decide +kernel) rfl
theorem q_35 : (Jvm.Cond.methodLink "java/lang/StringBuilder" (1 : Nat) ({ cls := "java/lang/AbstractStringBuilder", name := "<init>", desc := "(I)V" } : Jvm.MethodName)) ∈ lw_g := in_t1 (i := 35) (by decide +kernel) rfl
theorem q_36 : (Jvm.Cond.instanceMethod ({ cls := "java/lang/AbstractStringBuilder", name := "<init>", desc := "(I)V" } : Jvm.MethodName)) ∈ lw_g := in_t1 (i := 36) (by decide +kernel) rfl
theorem q_37 : (Jvm.Cond.code ({ cls := "java/lang/AbstractStringBuilder", name := "<init>", desc := "(I)V" } : Jvm.MethodName) prog_9_method_2_code (2 : Nat) (Option.none : Option Jvm.ClassFile.FieldType)) ∈ lw_g := in_t1 (i := 37) (by decide +kernel) rfl
theorem q_38 : (Jvm.Cond.methodLink "java/lang/AbstractStringBuilder" (3 : Nat) ({ cls := "java/lang/Object", name := "<init>", desc := "()V" } : Jvm.MethodName)) ∈ lw_g := in_t1 (i := 38) (by decide +kernel) rfl
theorem q_39 : (Jvm.Cond.fieldLink "java/lang/AbstractStringBuilder" (18 : Nat) "java/lang/String" "COMPACT_STRINGS" "Z") ∈ lw_g := in_t1 (i := 39) (by decide +kernel) rfl
theorem q_48 : (Jvm.Cond.fieldLink "java/lang/AbstractStringBuilder" (15 : Nat) "java/lang/AbstractStringBuilder" "value" "[B") ∈ lw_g := in_t1 (i := 48) (by decide +kernel) rfl
theorem q_49 : (Jvm.Cond.fieldLink "java/lang/AbstractStringBuilder" (22 : Nat) "java/lang/AbstractStringBuilder" "coder" "B") ∈ lw_g := in_t1 (i := 49) (by decide +kernel) rfl
theorem q_50 : (Jvm.Cond.fieldLink "java/lang/AbstractStringBuilder" (73 : Nat) "java/lang/AbstractStringBuilder" "maybeLatin1" "Z") ∈ lw_g := in_t1 (i := 50) (by decide +kernel) rfl
theorem q_52 : (Jvm.Cond.fieldLink "java/lang/AbstractStringBuilder" (79 : Nat) "java/lang/AbstractStringBuilder" "count" "I") ∈ lw_g := in_t1 (i := 52) (by decide +kernel) rfl
theorem q_61 : (Jvm.Cond.superclass "java/lang/StringBuilder" "java/lang/AbstractStringBuilder") ∈ lw_g := in_t1 (i := 61) (by decide +kernel) rfl
theorem q_62 : (Jvm.Cond.arrayClass Jvm.ClassFile.FieldType.byte) ∈ lw_g := in_t1 (i := 62) (by decide +kernel) rfl
theorem q_63 : (Jvm.Cond.classLink "NoteSheet" (22 : Nat) "NoteSheet$Reader") ∈ lw_g := in_t1 (i := 63) (by decide +kernel) rfl
theorem q_64 : (Jvm.Cond.instantiable "NoteSheet$Reader" (6 : Nat)) ∈ lw_g := in_t1 (i := 64) (by decide +kernel) rfl
theorem q_66 : (Jvm.Cond.instanceMethod ({ cls := "NoteSheet$Reader", name := "<init>", desc := "()V" } : Jvm.MethodName)) ∈ lw_g := in_t1 (i := 66) (by decide +kernel) rfl
theorem q_67 : (Jvm.Cond.code ({ cls := "NoteSheet$Reader", name := "<init>", desc := "()V" } : Jvm.MethodName) prog_6_method_1_code (1 : Nat) (Option.none : Option Jvm.ClassFile.FieldType)) ∈ lw_g := in_t1 (i := 67) (by decide +kernel) rfl
theorem q_68 : (Jvm.Cond.methodLink "NoteSheet$Reader" (3 : Nat) ({ cls := "java/lang/Object", name := "<init>", desc := "()V" } : Jvm.MethodName)) ∈ lw_g := in_t1 (i := 68) (by decide +kernel) rfl
theorem q_69 : (Jvm.Cond.classLink "NoteSheet$Reader" (9 : Nat) "NoteSheet$Op") ∈ lw_g := in_t1 (i := 69) (by decide +kernel) rfl
theorem q_71 : (Jvm.Cond.fieldLink "NoteSheet$Reader" (25 : Nat) "NoteSheet$Reader" "text" "Ljava/lang/String;") ∈ lw_g := in_t1 (i := 71) (by decide +kernel) rfl
theorem q_72 : (Jvm.Cond.fieldLink "NoteSheet$Reader" (21 : Nat) "NoteSheet$Reader" "at" "I") ∈ lw_g := in_t1 (i := 72) (by decide +kernel) rfl
theorem q_74 : (Jvm.Cond.fieldLink "NoteSheet$Reader" (47 : Nat) "NoteSheet$Reader" "size" "I") ∈ lw_g := in_t1 (i := 74) (by decide +kernel) rfl
theorem q_75 : (Jvm.Cond.fieldLink "NoteSheet$Reader" (35 : Nat) "NoteSheet$Reader" "stopped" "Z") ∈ lw_g := in_t1 (i := 75) (by decide +kernel) rfl
theorem q_76 : (Jvm.Cond.fieldLink "NoteSheet$Reader" (11 : Nat) "NoteSheet$Reader" "ops" "[LNoteSheet$Op;") ∈ lw_g := in_t1 (i := 76) (by decide +kernel) rfl
theorem q_77 : (Jvm.Cond.fieldLink "NoteSheet$Reader" (17 : Nat) "NoteSheet$Reader" "numbers" "[I") ∈ lw_g := in_t1 (i := 77) (by decide +kernel) rfl
theorem q_91 : (Jvm.Cond.arrayClass Jvm.ClassFile.FieldType.int) ∈ lw_g := in_t1 (i := 91) (by decide +kernel) rfl
theorem q_92 : (Jvm.Cond.instantiable "NoteSheet$Cell" (12 : Nat)) ∈ lw_g := in_t1 (i := 92) (by decide +kernel) rfl
theorem q_93 : (Jvm.Cond.methodLink "NoteSheet" (40 : Nat) ({ cls := "NoteSheet$Cell", name := "<init>", desc := "(I)V" } : Jvm.MethodName)) ∈ lw_g := in_t1 (i := 93) (by decide +kernel) rfl
theorem q_94 : (Jvm.Cond.instanceMethod ({ cls := "NoteSheet$Cell", name := "<init>", desc := "(I)V" } : Jvm.MethodName)) ∈ lw_g := in_t1 (i := 94) (by decide +kernel) rfl
theorem q_95 : (Jvm.Cond.code ({ cls := "NoteSheet$Cell", name := "<init>", desc := "(I)V" } : Jvm.MethodName) prog_2_method_1_code (2 : Nat) (Option.none : Option Jvm.ClassFile.FieldType)) ∈ lw_g := in_t1 (i := 95) (by decide +kernel) rfl
theorem q_96 : (Jvm.Cond.methodLink "NoteSheet$Cell" (1 : Nat) ({ cls := "java/lang/Object", name := "<init>", desc := "()V" } : Jvm.MethodName)) ∈ lw_g := in_t1 (i := 96) (by decide +kernel) rfl
theorem q_97 : (Jvm.Cond.fieldLink "NoteSheet$Cell" (13 : Nat) "NoteSheet$Cell" "number" "I") ∈ lw_g := in_t1 (i := 97) (by decide +kernel) rfl
theorem q_99 : (Jvm.Cond.fieldLink "NoteSheet$Cell" (7 : Nat) "NoteSheet$Cell" "input" "Z") ∈ lw_g := in_t1 (i := 99) (by decide +kernel) rfl
theorem q_103 : (Jvm.Cond.fieldLink "NoteSheet$Cell" (27 : Nat) "NoteSheet$Cell" "durability" "I") ∈ lw_g := in_t1 (i := 103) (by decide +kernel) rfl
theorem q_105 : (Jvm.Cond.fieldLink "NoteSheet$Cell" (17 : Nat) "NoteSheet$Cell" "since" "I") ∈ lw_g := in_t1 (i := 105) (by decide +kernel) rfl
theorem q_109 : (Jvm.Cond.fieldLink "NoteSheet$Cell" (20 : Nat) "NoteSheet$Cell" "note" "LNoteSheet$Note;") ∈ lw_g := in_t1 (i := 109) (by decide +kernel) rfl
theorem q_139 : (Jvm.Cond.fieldLink "NoteSheet" (37 : Nat) "NoteSheet" "kept" "I") ∈ lw_g := in_t1 (i := 139) (by decide +kernel) rfl
theorem q_140 : (Jvm.Cond.fieldLink "NoteSheet" (11 : Nat) "NoteSheet" "cells" "[LNoteSheet$Cell;") ∈ lw_g := in_t1 (i := 140) (by decide +kernel) rfl
theorem q_141 : (Jvm.Cond.fieldLink "NoteSheet" (18 : Nat) "NoteSheet" "pad" "Ljava/lang/StringBuilder;") ∈ lw_g := in_t1 (i := 141) (by decide +kernel) rfl
theorem q_142 : (Jvm.Cond.fieldLink "NoteSheet" (25 : Nat) "NoteSheet" "reader" "LNoteSheet$Reader;") ∈ lw_g := in_t1 (i := 142) (by decide +kernel) rfl
theorem q_143 : (Jvm.Cond.fieldLink "NoteSheet" (29 : Nat) "NoteSheet" "revision" "I") ∈ lw_g := in_t1 (i := 143) (by decide +kernel) rfl
theorem q_144 : (Jvm.Cond.fieldLink "NoteSheet" (176 : Nat) "NoteSheet" "uses" "I") ∈ lw_g := in_t1 (i := 144) (by decide +kernel) rfl
theorem q_145 : (Jvm.Cond.fieldLink "NoteSheet" (163 : Nat) "NoteSheet" "worked" "I") ∈ lw_g := in_t1 (i := 145) (by decide +kernel) rfl
theorem q_146 : (Jvm.Cond.fieldLink "NoteSheet" (134 : Nat) "NoteSheet" "confirmed" "I") ∈ lw_g := in_t1 (i := 146) (by decide +kernel) rfl
theorem q_147 : (Jvm.Cond.fieldLink "NoteSheet" (126 : Nat) "NoteSheet" "passed" "I") ∈ lw_g := in_t1 (i := 147) (by decide +kernel) rfl
theorem q_148 : (Jvm.Cond.fieldLink "NoteSheet" (33 : Nat) "NoteSheet" "changed" "[I") ∈ lw_g := in_t1 (i := 148) (by decide +kernel) rfl
theorem q_175 : (Jvm.Cond.methodLink "NoteSheet" (45 : Nat) ({ cls := "java/lang/String", name := "indexOf", desc := "(I)I" } : Jvm.MethodName)) ∈ lw_g := in_t1 (i := 175) (by decide +kernel) rfl
theorem q_176 : (Jvm.Cond.instanceMethod ({ cls := "java/lang/String", name := "indexOf", desc := "(I)I" } : Jvm.MethodName)) ∈ lw_g := in_t1 (i := 176) (by decide +kernel) rfl
theorem q_177 : (Jvm.Cond.selects "java/lang/String" ({ cls := "java/lang/String", name := "indexOf", desc := "(I)I" } : Jvm.MethodName) ({ cls := "java/lang/String", name := "indexOf", desc := "(I)I" } : Jvm.MethodName)) ∈ lw_g := in_t1 (i := 177) (by decide +kernel) rfl
theorem q_178 : (Jvm.Cond.code ({ cls := "java/lang/String", name := "indexOf", desc := "(I)I" } : Jvm.MethodName) prog_14_method_79_code (2 : Nat) (Option.some Jvm.ClassFile.FieldType.int)) ∈ lw_g := in_t1 (i := 178) (by decide +kernel) rfl
theorem q_179 : (Jvm.Cond.methodLink "java/lang/String" (633 : Nat) ({ cls := "java/lang/String", name := "indexOf", desc := "(II)I" } : Jvm.MethodName)) ∈ lw_g := in_t1 (i := 179) (by decide +kernel) rfl
theorem q_180 : (Jvm.Cond.instanceMethod ({ cls := "java/lang/String", name := "indexOf", desc := "(II)I" } : Jvm.MethodName)) ∈ lw_g := in_t1 (i := 180) (by decide +kernel) rfl
theorem q_181 : (Jvm.Cond.selects "java/lang/String" ({ cls := "java/lang/String", name := "indexOf", desc := "(II)I" } : Jvm.MethodName) ({ cls := "java/lang/String", name := "indexOf", desc := "(II)I" } : Jvm.MethodName)) ∈ lw_g := in_t1 (i := 181) (by decide +kernel) rfl
theorem q_182 : (Jvm.Cond.code ({ cls := "java/lang/String", name := "indexOf", desc := "(II)I" } : Jvm.MethodName) prog_14_method_80_code (3 : Nat) (Option.some Jvm.ClassFile.FieldType.int)) ∈ lw_g := in_t1 (i := 182) (by decide +kernel) rfl
theorem q_183 : (Jvm.Cond.methodLink "java/lang/String" (492 : Nat) ({ cls := "java/lang/String", name := "isLatin1", desc := "()Z" } : Jvm.MethodName)) ∈ lw_g := in_t1 (i := 183) (by decide +kernel) rfl
theorem q_184 : (Jvm.Cond.instanceMethod ({ cls := "java/lang/String", name := "isLatin1", desc := "()Z" } : Jvm.MethodName)) ∈ lw_g := in_t1 (i := 184) (by decide +kernel) rfl
theorem q_185 : (Jvm.Cond.selects "java/lang/String" ({ cls := "java/lang/String", name := "isLatin1", desc := "()Z" } : Jvm.MethodName) ({ cls := "java/lang/String", name := "isLatin1", desc := "()Z" } : Jvm.MethodName)) ∈ lw_g := in_t1 (i := 185) (by decide +kernel) rfl
theorem q_186 : (Jvm.Cond.code ({ cls := "java/lang/String", name := "isLatin1", desc := "()Z" } : Jvm.MethodName) prog_14_method_154_code (1 : Nat) (Option.some Jvm.ClassFile.FieldType.boolean)) ∈ lw_g := in_t1 (i := 186) (by decide +kernel) rfl
theorem q_187 : (Jvm.Cond.fieldLink "java/lang/String" (38 : Nat) "java/lang/String" "COMPACT_STRINGS" "Z") ∈ lw_g := in_t1 (i := 187) (by decide +kernel) rfl
theorem q_188 : (Jvm.Cond.methodLink "java/lang/String" (505 : Nat) ({ cls := "java/lang/String", name := "length", desc := "()I" } : Jvm.MethodName)) ∈ lw_g := in_t1 (i := 188) (by decide +kernel) rfl
theorem q_189 : (Jvm.Cond.instanceMethod ({ cls := "java/lang/String", name := "length", desc := "()I" } : Jvm.MethodName)) ∈ lw_g := in_t1 (i := 189) (by decide +kernel) rfl
theorem q_190 : (Jvm.Cond.selects "java/lang/String" ({ cls := "java/lang/String", name := "length", desc := "()I" } : Jvm.MethodName) ({ cls := "java/lang/String", name := "length", desc := "()I" } : Jvm.MethodName)) ∈ lw_g := in_t1 (i := 190) (by decide +kernel) rfl
theorem q_191 : (Jvm.Cond.code ({ cls := "java/lang/String", name := "length", desc := "()I" } : Jvm.MethodName) prog_14_method_54_code (1 : Nat) (Option.some Jvm.ClassFile.FieldType.int)) ∈ lw_g := in_t1 (i := 191) (by decide +kernel) rfl
theorem q_192 : (Jvm.Cond.methodLink "java/lang/String" (335 : Nat) ({ cls := "java/lang/String", name := "coder", desc := "()B" } : Jvm.MethodName)) ∈ lw_g := in_t1 (i := 192) (by decide +kernel) rfl
theorem q_193 : (Jvm.Cond.instanceMethod ({ cls := "java/lang/String", name := "coder", desc := "()B" } : Jvm.MethodName)) ∈ lw_g := in_t1 (i := 193) (by decide +kernel) rfl
theorem q_194 : (Jvm.Cond.selects "java/lang/String" ({ cls := "java/lang/String", name := "coder", desc := "()B" } : Jvm.MethodName) ({ cls := "java/lang/String", name := "coder", desc := "()B" } : Jvm.MethodName)) ∈ lw_g := in_t1 (i := 194) (by decide +kernel) rfl
theorem q_195 : (Jvm.Cond.code ({ cls := "java/lang/String", name := "coder", desc := "()B" } : Jvm.MethodName) prog_14_method_152_code (1 : Nat) (Option.some Jvm.ClassFile.FieldType.byte)) ∈ lw_g := in_t1 (i := 195) (by decide +kernel) rfl
theorem q_196 : (Jvm.Cond.methodLink "java/lang/String" (637 : Nat) ({ cls := "java/lang/StringLatin1", name := "indexOf", desc := "([BIII)I" } : Jvm.MethodName)) ∈ lw_g := in_t1 (i := 196) (by decide +kernel) rfl
theorem q_197 : (Jvm.Cond.static ({ cls := "java/lang/StringLatin1", name := "indexOf", desc := "([BIII)I" } : Jvm.MethodName)) ∈ lw_g := in_t1 (i := 197) (by decide +kernel) rfl
theorem q_198 : (Jvm.Cond.code ({ cls := "java/lang/StringLatin1", name := "indexOf", desc := "([BIII)I" } : Jvm.MethodName) prog_16_method_22_code (4 : Nat) (Option.some Jvm.ClassFile.FieldType.int)) ∈ lw_g := in_t1 (i := 198) (by decide +kernel) rfl
theorem q_199 : (Jvm.Cond.methodLink "java/lang/StringLatin1" (88 : Nat) ({ cls := "java/lang/StringLatin1", name := "canEncode", desc := "(I)Z" } : Jvm.MethodName)) ∈ lw_g := in_t1 (i := 199) (by decide +kernel) rfl
theorem q_200 : (Jvm.Cond.static ({ cls := "java/lang/StringLatin1", name := "canEncode", desc := "(I)Z" } : Jvm.MethodName)) ∈ lw_g := in_t1 (i := 200) (by decide +kernel) rfl
theorem q_201 : (Jvm.Cond.code ({ cls := "java/lang/StringLatin1", name := "canEncode", desc := "(I)Z" } : Jvm.MethodName) prog_16_method_4_code (1 : Nat) (Option.some Jvm.ClassFile.FieldType.boolean)) ∈ lw_g := in_t1 (i := 201) (by decide +kernel) rfl
theorem q_202 : (Jvm.Cond.methodLink "java/lang/StringLatin1" (92 : Nat) ({ cls := "java/lang/Math", name := "max", desc := "(II)I" } : Jvm.MethodName)) ∈ lw_g := in_t1 (i := 202) (by decide +kernel) rfl
theorem q_203 : (Jvm.Cond.static ({ cls := "java/lang/Math", name := "max", desc := "(II)I" } : Jvm.MethodName)) ∈ lw_g := in_t1 (i := 203) (by decide +kernel) rfl
theorem q_204 : (Jvm.Cond.code ({ cls := "java/lang/Math", name := "max", desc := "(II)I" } : Jvm.MethodName) prog_13_method_65_code (2 : Nat) (Option.some Jvm.ClassFile.FieldType.int)) ∈ lw_g := in_t1 (i := 204) (by decide +kernel) rfl
theorem q_205 : (Jvm.Cond.methodLink "java/lang/StringLatin1" (38 : Nat) ({ cls := "java/lang/Math", name := "min", desc := "(II)I" } : Jvm.MethodName)) ∈ lw_g := in_t1 (i := 205) (by decide +kernel) rfl
theorem q_206 : (Jvm.Cond.static ({ cls := "java/lang/Math", name := "min", desc := "(II)I" } : Jvm.MethodName)) ∈ lw_g := in_t1 (i := 206) (by decide +kernel) rfl
theorem q_207 : (Jvm.Cond.code ({ cls := "java/lang/Math", name := "min", desc := "(II)I" } : Jvm.MethodName) prog_13_method_69_code (2 : Nat) (Option.some Jvm.ClassFile.FieldType.int)) ∈ lw_g := in_t1 (i := 207) (by decide +kernel) rfl
theorem q_208 : (Jvm.Cond.methodLink "java/lang/StringLatin1" (95 : Nat) ({ cls := "java/lang/StringLatin1", name := "indexOfChar", desc := "([BIII)I" } : Jvm.MethodName)) ∈ lw_g := in_t1 (i := 208) (by decide +kernel) rfl
theorem q_209 : (Jvm.Cond.static ({ cls := "java/lang/StringLatin1", name := "indexOfChar", desc := "([BIII)I" } : Jvm.MethodName)) ∈ lw_g := in_t1 (i := 209) (by decide +kernel) rfl
theorem q_210 : (Jvm.Cond.code ({ cls := "java/lang/StringLatin1", name := "indexOfChar", desc := "([BIII)I" } : Jvm.MethodName) prog_16_method_23_code (6 : Nat) (Option.some Jvm.ClassFile.FieldType.int)) ∈ lw_g := in_t1 (i := 210) (by decide +kernel) rfl
theorem q_229 : (Jvm.Cond.fieldLink "java/lang/String" (1053 : Nat) "jdk/internal/util/Preconditions" "SIOOBE_FORMATTER" "Ljava/util/function/BiFunction;") ∈ lw_g := in_t1 (i := 229) (by decide +kernel) rfl
theorem q_260 : (Jvm.Cond.methodLink "NoteSheet" (51 : Nat) ({ cls := "java/lang/StringBuilder", name := "length", desc := "()I" } : Jvm.MethodName)) ∈ lw_g := in_t1 (i := 260) (by decide +kernel) rfl
theorem q_261 : (Jvm.Cond.instanceMethod ({ cls := "java/lang/StringBuilder", name := "length", desc := "()I" } : Jvm.MethodName)) ∈ lw_g := in_t1 (i := 261) (by decide +kernel) rfl
theorem q_262 : (Jvm.Cond.selects "java/lang/StringBuilder" ({ cls := "java/lang/StringBuilder", name := "length", desc := "()I" } : Jvm.MethodName) ({ cls := "java/lang/StringBuilder", name := "length", desc := "()I" } : Jvm.MethodName)) ∈ lw_g := in_t1 (i := 262) (by decide +kernel) rfl
theorem q_263 : (Jvm.Cond.code ({ cls := "java/lang/StringBuilder", name := "length", desc := "()I" } : Jvm.MethodName) prog_15_method_93_code (1 : Nat) (Option.some Jvm.ClassFile.FieldType.int)) ∈ lw_g := in_t1 (i := 263) (by decide +kernel) rfl
theorem q_264 : (Jvm.Cond.methodLink "java/lang/StringBuilder" (343 : Nat) ({ cls := "java/lang/AbstractStringBuilder", name := "length", desc := "()I" } : Jvm.MethodName)) ∈ lw_g := in_t1 (i := 264) (by decide +kernel) rfl
theorem q_265 : (Jvm.Cond.instanceMethod ({ cls := "java/lang/AbstractStringBuilder", name := "length", desc := "()I" } : Jvm.MethodName)) ∈ lw_g := in_t1 (i := 265) (by decide +kernel) rfl
theorem q_266 : (Jvm.Cond.code ({ cls := "java/lang/AbstractStringBuilder", name := "length", desc := "()I" } : Jvm.MethodName) prog_9_method_6_code (1 : Nat) (Option.some Jvm.ClassFile.FieldType.int)) ∈ lw_g := in_t1 (i := 266) (by decide +kernel) rfl
theorem q_267 : (Jvm.Cond.methodLink "NoteSheet" (55 : Nat) ({ cls := "java/lang/StringBuilder", name := "append", desc := "(C)Ljava/lang/StringBuilder;" } : Jvm.MethodName)) ∈ lw_g := in_t1 (i := 267) (by decide +kernel) rfl
theorem q_268 : (Jvm.Cond.instanceMethod ({ cls := "java/lang/StringBuilder", name := "append", desc := "(C)Ljava/lang/StringBuilder;" } : Jvm.MethodName)) ∈ lw_g := in_t1 (i := 268) (by decide +kernel) rfl
theorem q_269 : (Jvm.Cond.selects "java/lang/StringBuilder" ({ cls := "java/lang/StringBuilder", name := "append", desc := "(C)Ljava/lang/StringBuilder;" } : Jvm.MethodName) ({ cls := "java/lang/StringBuilder", name := "append", desc := "(C)Ljava/lang/StringBuilder;" } : Jvm.MethodName)) ∈ lw_g := in_t1 (i := 269) (by decide +kernel) rfl
theorem q_270 : (Jvm.Cond.code ({ cls := "java/lang/StringBuilder", name := "append", desc := "(C)Ljava/lang/StringBuilder;" } : Jvm.MethodName) prog_15_method_14_code (2 : Nat) (Option.some (Jvm.ClassFile.FieldType.object "java/lang/StringBuilder"))) ∈ lw_g := in_t1 (i := 270) (by decide +kernel) rfl
theorem q_271 : (Jvm.Cond.methodLink "java/lang/StringBuilder" (50 : Nat) ({ cls := "java/lang/AbstractStringBuilder", name := "append", desc := "(C)Ljava/lang/AbstractStringBuilder;" } : Jvm.MethodName)) ∈ lw_g := in_t1 (i := 271) (by decide +kernel) rfl
theorem q_272 : (Jvm.Cond.instanceMethod ({ cls := "java/lang/AbstractStringBuilder", name := "append", desc := "(C)Ljava/lang/AbstractStringBuilder;" } : Jvm.MethodName)) ∈ lw_g := in_t1 (i := 272) (by decide +kernel) rfl
theorem q_273 : (Jvm.Cond.code ({ cls := "java/lang/AbstractStringBuilder", name := "append", desc := "(C)Ljava/lang/AbstractStringBuilder;" } : Jvm.MethodName) prog_9_method_31_code (2 : Nat) (Option.some (Jvm.ClassFile.FieldType.object "java/lang/AbstractStringBuilder"))) ∈ lw_g := in_t1 (i := 273) (by decide +kernel) rfl
theorem q_274 : (Jvm.Cond.methodLink "java/lang/AbstractStringBuilder" (100 : Nat) ({ cls := "java/lang/AbstractStringBuilder", name := "ensureCapacityInternal", desc := "(I)V" } : Jvm.MethodName)) ∈ lw_g := in_t1 (i := 274) (by decide +kernel) rfl
theorem q_276 : (Jvm.Cond.instanceMethod ({ cls := "java/lang/AbstractStringBuilder", name := "ensureCapacityInternal", desc := "(I)V" } : Jvm.MethodName)) ∈ lw_g := in_t1 (i := 276) (by decide +kernel) rfl
theorem q_277 : (Jvm.Cond.code ({ cls := "java/lang/AbstractStringBuilder", name := "ensureCapacityInternal", desc := "(I)V" } : Jvm.MethodName) prog_9_method_9_code (3 : Nat) (Option.none : Option Jvm.ClassFile.FieldType)) ∈ lw_g := in_t1 (i := 277) (by decide +kernel) rfl
theorem q_278 : (Jvm.Cond.methodLink "java/lang/AbstractStringBuilder" (104 : Nat) ({ cls := "java/lang/AbstractStringBuilder", name := "newCapacity", desc := "(I)I" } : Jvm.MethodName)) ∈ lw_g := in_t1 (i := 278) (by decide +kernel) rfl
theorem q_280 : (Jvm.Cond.instanceMethod ({ cls := "java/lang/AbstractStringBuilder", name := "newCapacity", desc := "(I)I" } : Jvm.MethodName)) ∈ lw_g := in_t1 (i := 280) (by decide +kernel) rfl
theorem q_281 : (Jvm.Cond.code ({ cls := "java/lang/AbstractStringBuilder", name := "newCapacity", desc := "(I)I" } : Jvm.MethodName) prog_9_method_10_code (6 : Nat) (Option.some Jvm.ClassFile.FieldType.int)) ∈ lw_g := in_t1 (i := 281) (by decide +kernel) rfl
theorem q_282 : (Jvm.Cond.methodLink "java/lang/AbstractStringBuilder" (114 : Nat) ({ cls := "jdk/internal/util/ArraysSupport", name := "newLength", desc := "(III)I" } : Jvm.MethodName)) ∈ lw_g := in_t1 (i := 282) (by decide +kernel) rfl
theorem q_283 : (Jvm.Cond.static ({ cls := "jdk/internal/util/ArraysSupport", name := "newLength", desc := "(III)I" } : Jvm.MethodName)) ∈ lw_g := in_t1 (i := 283) (by decide +kernel) rfl
theorem q_284 : (Jvm.Cond.code ({ cls := "jdk/internal/util/ArraysSupport", name := "newLength", desc := "(III)I" } : Jvm.MethodName) prog_20_method_27_code (4 : Nat) (Option.some Jvm.ClassFile.FieldType.int)) ∈ lw_g := in_t1 (i := 284) (by decide +kernel) rfl
theorem q_285 : (Jvm.Cond.methodLink "jdk/internal/util/ArraysSupport" (194 : Nat) ({ cls := "java/lang/Math", name := "max", desc := "(II)I" } : Jvm.MethodName)) ∈ lw_g := in_t1 (i := 285) (by decide +kernel) rfl
theorem q_286 : (Jvm.Cond.constant "jdk/internal/util/ArraysSupport" (200 : Nat) (2147483639 : Int32)) ∈ lw_g := in_t1 (i := 286) (by decide +kernel) rfl
theorem q_290 : (Jvm.Cond.constant "java/lang/AbstractStringBuilder" (39 : Nat) (2147483647 : Int32)) ∈ lw_g := in_t1 (i := 290) (by decide +kernel) rfl
theorem q_291 : (Jvm.Cond.methodLink "java/lang/AbstractStringBuilder" (108 : Nat) ({ cls := "java/util/Arrays", name := "copyOf", desc := "([BI)[B" } : Jvm.MethodName)) ∈ lw_g := in_t1 (i := 291) (by decide +kernel) rfl
theorem q_292 : (Jvm.Cond.static ({ cls := "java/util/Arrays", name := "copyOf", desc := "([BI)[B" } : Jvm.MethodName)) ∈ lw_g := in_t1 (i := 292) (by decide +kernel) rfl
theorem q_293 : (Jvm.Cond.code ({ cls := "java/util/Arrays", name := "copyOf", desc := "([BI)[B" } : Jvm.MethodName) prog_19_method_121_code (3 : Nat) (Option.some (Jvm.ClassFile.FieldType.array Jvm.ClassFile.FieldType.byte))) ∈ lw_g := in_t1 (i := 293) (by decide +kernel) rfl
theorem q_294 : (Jvm.Cond.methodLink "java/util/Arrays" (310 : Nat) ({ cls := "[B", name := "clone", desc := "()Ljava/lang/Object;" } : Jvm.MethodName)) ∈ lw_g := in_t1 (i := 294) (by decide +kernel) rfl
theorem q_295 : (Jvm.Cond.sameMethod "[B" "java/lang/Object" "clone" "()Ljava/lang/Object;") ∈ lw_g := in_t1 (i := 295) (by decide +kernel) rfl
theorem q_296 : (Jvm.Cond.native ({ cls := "java/lang/Object", name := "clone", desc := "()Ljava/lang/Object;" } : Jvm.MethodName)) ∈ lw_g := in_t1 (i := 296) (by decide +kernel) rfl
theorem q_297 : (Jvm.Cond.instanceMethod ({ cls := "java/lang/Object", name := "clone", desc := "()Ljava/lang/Object;" } : Jvm.MethodName)) ∈ lw_g := in_t1 (i := 297) (by decide +kernel) rfl
theorem q_298 : (Jvm.Cond.selects "[B" ({ cls := "[B", name := "clone", desc := "()Ljava/lang/Object;" } : Jvm.MethodName) ({ cls := "java/lang/Object", name := "clone", desc := "()Ljava/lang/Object;" } : Jvm.MethodName)) ∈ lw_g := in_t1 (i := 298) (by decide +kernel) rfl
theorem q_300 : (Jvm.Cond.classLink "java/util/Arrays" (311 : Nat) "[B") ∈ lw_g := in_t1 (i := 300) (by decide +kernel) rfl
theorem q_301 : (Jvm.Cond.methodLink "java/util/Arrays" (304 : Nat) ({ cls := "java/lang/Math", name := "min", desc := "(II)I" } : Jvm.MethodName)) ∈ lw_g := in_t1 (i := 301) (by decide +kernel) rfl
theorem q_302 : (Jvm.Cond.methodLink "java/util/Arrays" (150 : Nat) ({ cls := "java/lang/System", name := "arraycopy", desc := "(Ljava/lang/Object;ILjava/lang/Object;II)V" } : Jvm.MethodName)) ∈ lw_g := in_t1 (i := 302) (by decide +kernel) rfl
theorem q_303 : (Jvm.Cond.static ({ cls := "java/lang/System", name := "arraycopy", desc := "(Ljava/lang/Object;ILjava/lang/Object;II)V" } : Jvm.MethodName)) ∈ lw_g := in_t1 (i := 303) (by decide +kernel) rfl
theorem q_304 : (Jvm.Cond.native ({ cls := "java/lang/System", name := "arraycopy", desc := "(Ljava/lang/Object;ILjava/lang/Object;II)V" } : Jvm.MethodName)) ∈ lw_g := in_t1 (i := 304) (by decide +kernel) rfl
theorem q_305 : (Jvm.Cond.methodLink "java/lang/AbstractStringBuilder" (83 : Nat) ({ cls := "java/lang/AbstractStringBuilder", name := "isLatin1", desc := "()Z" } : Jvm.MethodName)) ∈ lw_g := in_t1 (i := 305) (by decide +kernel) rfl
theorem q_306 : (Jvm.Cond.instanceMethod ({ cls := "java/lang/AbstractStringBuilder", name := "isLatin1", desc := "()Z" } : Jvm.MethodName)) ∈ lw_g := in_t1 (i := 306) (by decide +kernel) rfl
theorem q_307 : (Jvm.Cond.sameMethod "java/lang/AbstractStringBuilder" "java/lang/AbstractStringBuilder" "isLatin1" "()Z") ∈ lw_g := in_t1 (i := 307) (by decide +kernel) rfl
theorem q_308 : (Jvm.Cond.selects "java/lang/StringBuilder" ({ cls := "java/lang/AbstractStringBuilder", name := "isLatin1", desc := "()Z" } : Jvm.MethodName) ({ cls := "java/lang/AbstractStringBuilder", name := "isLatin1", desc := "()Z" } : Jvm.MethodName)) ∈ lw_g := in_t1 (i := 308) (by decide +kernel) rfl
theorem q_309 : (Jvm.Cond.code ({ cls := "java/lang/AbstractStringBuilder", name := "isLatin1", desc := "()Z" } : Jvm.MethodName) prog_9_method_68_code (1 : Nat) (Option.some Jvm.ClassFile.FieldType.boolean)) ∈ lw_g := in_t1 (i := 309) (by decide +kernel) rfl
theorem q_310 : (Jvm.Cond.methodLink "java/lang/AbstractStringBuilder" (191 : Nat) ({ cls := "java/lang/StringLatin1", name := "canEncode", desc := "(C)Z" } : Jvm.MethodName)) ∈ lw_g := in_t1 (i := 310) (by decide +kernel) rfl
theorem q_311 : (Jvm.Cond.static ({ cls := "java/lang/StringLatin1", name := "canEncode", desc := "(C)Z" } : Jvm.MethodName)) ∈ lw_g := in_t1 (i := 311) (by decide +kernel) rfl
theorem q_312 : (Jvm.Cond.code ({ cls := "java/lang/StringLatin1", name := "canEncode", desc := "(C)Z" } : Jvm.MethodName) prog_16_method_3_code (1 : Nat) (Option.some Jvm.ClassFile.FieldType.boolean)) ∈ lw_g := in_t1 (i := 312) (by decide +kernel) rfl
theorem q_342 : (Jvm.Cond.static ({ cls := "java/lang/String", name := "checkIndex", desc := "(II)V" } : Jvm.MethodName)) ∈ lw_g := in_t1 (i := 342) (by decide +kernel) rfl
theorem q_343 : (Jvm.Cond.code ({ cls := "java/lang/String", name := "checkIndex", desc := "(II)V" } : Jvm.MethodName) prog_14_method_155_code (2 : Nat) (Option.none : Option Jvm.ClassFile.FieldType)) ∈ lw_g := in_t1 (i := 343) (by decide +kernel) rfl
theorem q_344 : (Jvm.Cond.methodLink "java/lang/String" (1059 : Nat) ({ cls := "jdk/internal/util/Preconditions", name := "checkIndex", desc := "(IILjava/util/function/BiFunction;)I" } : Jvm.MethodName)) ∈ lw_g := in_t1 (i := 344) (by decide +kernel) rfl
theorem q_345 : (Jvm.Cond.static ({ cls := "jdk/internal/util/Preconditions", name := "checkIndex", desc := "(IILjava/util/function/BiFunction;)I" } : Jvm.MethodName)) ∈ lw_g := in_t1 (i := 345) (by decide +kernel) rfl
theorem q_346 : (Jvm.Cond.code ({ cls := "jdk/internal/util/Preconditions", name := "checkIndex", desc := "(IILjava/util/function/BiFunction;)I" } : Jvm.MethodName) prog_21_method_11_code (3 : Nat) (Option.some Jvm.ClassFile.FieldType.int)) ∈ lw_g := in_t1 (i := 346) (by decide +kernel) rfl
theorem q_351 : (Jvm.Cond.methodLink "NoteSheet" (59 : Nat) ({ cls := "NoteSheet", name := "cell", desc := "(I)LNoteSheet$Cell;" } : Jvm.MethodName)) ∈ lw_g := in_t1 (i := 351) (by decide +kernel) rfl
theorem q_353 : (Jvm.Cond.instanceMethod ({ cls := "NoteSheet", name := "cell", desc := "(I)LNoteSheet$Cell;" } : Jvm.MethodName)) ∈ lw_g := in_t1 (i := 353) (by decide +kernel) rfl
theorem q_354 : (Jvm.Cond.code ({ cls := "NoteSheet", name := "cell", desc := "(I)LNoteSheet$Cell;" } : Jvm.MethodName) prog_1_method_3_code (2 : Nat) (Option.some (Jvm.ClassFile.FieldType.object "NoteSheet$Cell"))) ∈ lw_g := in_t1 (i := 354) (by decide +kernel) rfl
theorem q_355 : (Jvm.Cond.methodLink "NoteSheet" (63 : Nat) ({ cls := "java/lang/StringBuilder", name := "toString", desc := "()Ljava/lang/String;" } : Jvm.MethodName)) ∈ lw_g := in_t1 (i := 355) (by decide +kernel) rfl
theorem q_356 : (Jvm.Cond.instanceMethod ({ cls := "java/lang/StringBuilder", name := "toString", desc := "()Ljava/lang/String;" } : Jvm.MethodName)) ∈ lw_g := in_t1 (i := 356) (by decide +kernel) rfl
theorem q_357 : (Jvm.Cond.selects "java/lang/StringBuilder" ({ cls := "java/lang/StringBuilder", name := "toString", desc := "()Ljava/lang/String;" } : Jvm.MethodName) ({ cls := "java/lang/StringBuilder", name := "toString", desc := "()Ljava/lang/String;" } : Jvm.MethodName)) ∈ lw_g := in_t1 (i := 357) (by decide +kernel) rfl
theorem q_358 : (Jvm.Cond.code ({ cls := "java/lang/StringBuilder", name := "toString", desc := "()Ljava/lang/String;" } : Jvm.MethodName) prog_15_method_42_code (1 : Nat) (Option.some (Jvm.ClassFile.FieldType.object "java/lang/String"))) ∈ lw_g := in_t1 (i := 358) (by decide +kernel) rfl
theorem q_359 : (Jvm.Cond.classLink "java/lang/StringBuilder" (18 : Nat) "java/lang/String") ∈ lw_g := in_t1 (i := 359) (by decide +kernel) rfl
theorem q_360 : (Jvm.Cond.instantiable "java/lang/String" (4 : Nat)) ∈ lw_g := in_t1 (i := 360) (by decide +kernel) rfl
theorem q_361 : (Jvm.Cond.methodLink "java/lang/StringBuilder" (137 : Nat) ({ cls := "java/lang/String", name := "<init>", desc := "(Ljava/lang/StringBuilder;)V" } : Jvm.MethodName)) ∈ lw_g := in_t1 (i := 361) (by decide +kernel) rfl
theorem q_362 : (Jvm.Cond.instanceMethod ({ cls := "java/lang/String", name := "<init>", desc := "(Ljava/lang/StringBuilder;)V" } : Jvm.MethodName)) ∈ lw_g := in_t1 (i := 362) (by decide +kernel) rfl
theorem q_363 : (Jvm.Cond.code ({ cls := "java/lang/String", name := "<init>", desc := "(Ljava/lang/StringBuilder;)V" } : Jvm.MethodName) prog_14_method_53_code (2 : Nat) (Option.none : Option Jvm.ClassFile.FieldType)) ∈ lw_g := in_t1 (i := 363) (by decide +kernel) rfl
theorem q_364 : (Jvm.Cond.methodLink "java/lang/String" (489 : Nat) ({ cls := "java/lang/String", name := "<init>", desc := "(Ljava/lang/AbstractStringBuilder;Ljava/lang/Void;)V" } : Jvm.MethodName)) ∈ lw_g := in_t1 (i := 364) (by decide +kernel) rfl
theorem q_365 : (Jvm.Cond.instanceMethod ({ cls := "java/lang/String", name := "<init>", desc := "(Ljava/lang/AbstractStringBuilder;Ljava/lang/Void;)V" } : Jvm.MethodName)) ∈ lw_g := in_t1 (i := 365) (by decide +kernel) rfl
theorem q_366 : (Jvm.Cond.code ({ cls := "java/lang/String", name := "<init>", desc := "(Ljava/lang/AbstractStringBuilder;Ljava/lang/Void;)V" } : Jvm.MethodName) prog_14_method_150_code (5 : Nat) (Option.none : Option Jvm.ClassFile.FieldType)) ∈ lw_g := in_t1 (i := 366) (by decide +kernel) rfl
theorem q_367 : (Jvm.Cond.methodLink "java/lang/String" (1 : Nat) ({ cls := "java/lang/Object", name := "<init>", desc := "()V" } : Jvm.MethodName)) ∈ lw_g := in_t1 (i := 367) (by decide +kernel) rfl
theorem q_368 : (Jvm.Cond.methodLink "java/lang/String" (552 : Nat) ({ cls := "java/lang/AbstractStringBuilder", name := "getValue", desc := "()[B" } : Jvm.MethodName)) ∈ lw_g := in_t1 (i := 368) (by decide +kernel) rfl
theorem q_369 : (Jvm.Cond.instanceMethod ({ cls := "java/lang/AbstractStringBuilder", name := "getValue", desc := "()[B" } : Jvm.MethodName)) ∈ lw_g := in_t1 (i := 369) (by decide +kernel) rfl
theorem q_370 : (Jvm.Cond.sameMethod "java/lang/AbstractStringBuilder" "java/lang/AbstractStringBuilder" "getValue" "()[B") ∈ lw_g := in_t1 (i := 370) (by decide +kernel) rfl
theorem q_371 : (Jvm.Cond.selects "java/lang/StringBuilder" ({ cls := "java/lang/AbstractStringBuilder", name := "getValue", desc := "()[B" } : Jvm.MethodName) ({ cls := "java/lang/AbstractStringBuilder", name := "getValue", desc := "()[B" } : Jvm.MethodName)) ∈ lw_g := in_t1 (i := 371) (by decide +kernel) rfl
theorem q_372 : (Jvm.Cond.code ({ cls := "java/lang/AbstractStringBuilder", name := "getValue", desc := "()[B" } : Jvm.MethodName) prog_9_method_64_code (1 : Nat) (Option.some (Jvm.ClassFile.FieldType.array Jvm.ClassFile.FieldType.byte))) ∈ lw_g := in_t1 (i := 372) (by decide +kernel) rfl
theorem q_373 : (Jvm.Cond.methodLink "java/lang/String" (549 : Nat) ({ cls := "java/lang/AbstractStringBuilder", name := "length", desc := "()I" } : Jvm.MethodName)) ∈ lw_g := in_t1 (i := 373) (by decide +kernel) rfl
theorem q_374 : (Jvm.Cond.methodLink "java/lang/String" (1047 : Nat) ({ cls := "java/lang/AbstractStringBuilder", name := "isLatin1", desc := "()Z" } : Jvm.MethodName)) ∈ lw_g := in_t1 (i := 374) (by decide +kernel) rfl
theorem q_375 : (Jvm.Cond.methodLink "java/lang/String" (54 : Nat) ({ cls := "java/util/Arrays", name := "copyOfRange", desc := "([BII)[B" } : Jvm.MethodName)) ∈ lw_g := in_t1 (i := 375) (by decide +kernel) rfl
theorem q_376 : (Jvm.Cond.static ({ cls := "java/util/Arrays", name := "copyOfRange", desc := "([BII)[B" } : Jvm.MethodName)) ∈ lw_g := in_t1 (i := 376) (by decide +kernel) rfl
theorem q_377 : (Jvm.Cond.code ({ cls := "java/util/Arrays", name := "copyOfRange", desc := "([BII)[B" } : Jvm.MethodName) prog_19_method_132_code (3 : Nat) (Option.some (Jvm.ClassFile.FieldType.array Jvm.ClassFile.FieldType.byte))) ∈ lw_g := in_t1 (i := 377) (by decide +kernel) rfl
theorem q_378 : (Jvm.Cond.methodLink "java/util/Arrays" (339 : Nat) ({ cls := "java/util/Arrays", name := "copyOfRangeByte", desc := "([BII)[B" } : Jvm.MethodName)) ∈ lw_g := in_t1 (i := 378) (by decide +kernel) rfl
theorem q_379 : (Jvm.Cond.static ({ cls := "java/util/Arrays", name := "copyOfRangeByte", desc := "([BII)[B" } : Jvm.MethodName)) ∈ lw_g := in_t1 (i := 379) (by decide +kernel) rfl
theorem q_380 : (Jvm.Cond.code ({ cls := "java/util/Arrays", name := "copyOfRangeByte", desc := "([BII)[B" } : Jvm.MethodName) prog_19_method_133_code (5 : Nat) (Option.some (Jvm.ClassFile.FieldType.array Jvm.ClassFile.FieldType.byte))) ∈ lw_g := in_t1 (i := 380) (by decide +kernel) rfl
theorem q_381 : (Jvm.Cond.methodLink "java/util/Arrays" (343 : Nat) ({ cls := "java/util/Arrays", name := "checkLength", desc := "(II)V" } : Jvm.MethodName)) ∈ lw_g := in_t1 (i := 381) (by decide +kernel) rfl
theorem q_382 : (Jvm.Cond.static ({ cls := "java/util/Arrays", name := "checkLength", desc := "(II)V" } : Jvm.MethodName)) ∈ lw_g := in_t1 (i := 382) (by decide +kernel) rfl
theorem q_383 : (Jvm.Cond.code ({ cls := "java/util/Arrays", name := "checkLength", desc := "(II)V" } : Jvm.MethodName) prog_19_method_131_code (2 : Nat) (Option.none : Option Jvm.ClassFile.FieldType)) ∈ lw_g := in_t1 (i := 383) (by decide +kernel) rfl
theorem q_394 : (Jvm.Cond.fieldLink "java/lang/String" (9 : Nat) "java/lang/String" "value" "[B") ∈ lw_g := in_t1 (i := 394) (by decide +kernel) rfl
theorem q_395 : (Jvm.Cond.fieldLink "java/lang/String" (15 : Nat) "java/lang/String" "coder" "B") ∈ lw_g := in_t1 (i := 395) (by decide +kernel) rfl
theorem q_405 : (Jvm.Cond.methodLink "NoteSheet" (67 : Nat) ({ cls := "java/lang/StringBuilder", name := "setLength", desc := "(I)V" } : Jvm.MethodName)) ∈ lw_g := in_t1 (i := 405) (by decide +kernel) rfl
theorem q_406 : (Jvm.Cond.instanceMethod ({ cls := "java/lang/StringBuilder", name := "setLength", desc := "(I)V" } : Jvm.MethodName)) ∈ lw_g := in_t1 (i := 406) (by decide +kernel) rfl
theorem q_407 : (Jvm.Cond.selects "java/lang/StringBuilder" ({ cls := "java/lang/StringBuilder", name := "setLength", desc := "(I)V" } : Jvm.MethodName) ({ cls := "java/lang/StringBuilder", name := "setLength", desc := "(I)V" } : Jvm.MethodName)) ∈ lw_g := in_t1 (i := 407) (by decide +kernel) rfl
theorem q_408 : (Jvm.Cond.code ({ cls := "java/lang/StringBuilder", name := "setLength", desc := "(I)V" } : Jvm.MethodName) prog_15_method_89_code (2 : Nat) (Option.none : Option Jvm.ClassFile.FieldType)) ∈ lw_g := in_t1 (i := 408) (by decide +kernel) rfl
theorem q_409 : (Jvm.Cond.methodLink "java/lang/StringBuilder" (333 : Nat) ({ cls := "java/lang/AbstractStringBuilder", name := "setLength", desc := "(I)V" } : Jvm.MethodName)) ∈ lw_g := in_t1 (i := 409) (by decide +kernel) rfl
theorem q_410 : (Jvm.Cond.instanceMethod ({ cls := "java/lang/AbstractStringBuilder", name := "setLength", desc := "(I)V" } : Jvm.MethodName)) ∈ lw_g := in_t1 (i := 410) (by decide +kernel) rfl
theorem q_411 : (Jvm.Cond.code ({ cls := "java/lang/AbstractStringBuilder", name := "setLength", desc := "(I)V" } : Jvm.MethodName) prog_9_method_13_code (2 : Nat) (Option.none : Option Jvm.ClassFile.FieldType)) ∈ lw_g := in_t1 (i := 411) (by decide +kernel) rfl
theorem q_425 : (Jvm.Cond.methodLink "NoteSheet" (70 : Nat) ({ cls := "NoteSheet$Reader", name := "read", desc := "(Ljava/lang/String;)LNoteSheet$Formula;" } : Jvm.MethodName)) ∈ lw_g := in_t1 (i := 425) (by decide +kernel) rfl
theorem q_426 : (Jvm.Cond.instanceMethod ({ cls := "NoteSheet$Reader", name := "read", desc := "(Ljava/lang/String;)LNoteSheet$Formula;" } : Jvm.MethodName)) ∈ lw_g := in_t1 (i := 426) (by decide +kernel) rfl
theorem q_427 : (Jvm.Cond.selects "NoteSheet$Reader" ({ cls := "NoteSheet$Reader", name := "read", desc := "(Ljava/lang/String;)LNoteSheet$Formula;" } : Jvm.MethodName) ({ cls := "NoteSheet$Reader", name := "read", desc := "(Ljava/lang/String;)LNoteSheet$Formula;" } : Jvm.MethodName)) ∈ lw_g := in_t1 (i := 427) (by decide +kernel) rfl
theorem q_428 : (Jvm.Cond.code ({ cls := "NoteSheet$Reader", name := "read", desc := "(Ljava/lang/String;)LNoteSheet$Formula;" } : Jvm.MethodName) prog_6_method_13_code (2 : Nat) (Option.some (Jvm.ClassFile.FieldType.object "NoteSheet$Formula"))) ∈ lw_g := in_t1 (i := 428) (by decide +kernel) rfl
theorem q_429 : (Jvm.Cond.methodLink "NoteSheet$Reader" (76 : Nat) ({ cls := "NoteSheet$Reader", name := "formula", desc := "(I)V" } : Jvm.MethodName)) ∈ lw_g := in_t1 (i := 429) (by decide +kernel) rfl
theorem q_431 : (Jvm.Cond.instanceMethod ({ cls := "NoteSheet$Reader", name := "formula", desc := "(I)V" } : Jvm.MethodName)) ∈ lw_g := in_t1 (i := 431) (by decide +kernel) rfl
theorem q_432 : (Jvm.Cond.code ({ cls := "NoteSheet$Reader", name := "formula", desc := "(I)V" } : Jvm.MethodName) prog_6_method_6_code (4 : Nat) (Option.none : Option Jvm.ClassFile.FieldType)) ∈ lw_g := in_t1 (i := 432) (by decide +kernel) rfl
theorem q_433 : (Jvm.Cond.methodLink "NoteSheet$Reader" (54 : Nat) ({ cls := "NoteSheet$Reader", name := "comparison", desc := "(I)V" } : Jvm.MethodName)) ∈ lw_g := in_t1 (i := 433) (by decide +kernel) rfl
theorem q_435 : (Jvm.Cond.instanceMethod ({ cls := "NoteSheet$Reader", name := "comparison", desc := "(I)V" } : Jvm.MethodName)) ∈ lw_g := in_t1 (i := 435) (by decide +kernel) rfl
theorem q_436 : (Jvm.Cond.code ({ cls := "NoteSheet$Reader", name := "comparison", desc := "(I)V" } : Jvm.MethodName) prog_6_method_8_code (3 : Nat) (Option.none : Option Jvm.ClassFile.FieldType)) ∈ lw_g := in_t1 (i := 436) (by decide +kernel) rfl
theorem q_437 : (Jvm.Cond.methodLink "NoteSheet$Reader" (79 : Nat) ({ cls := "NoteSheet$Reader", name := "sum", desc := "(I)V" } : Jvm.MethodName)) ∈ lw_g := in_t1 (i := 437) (by decide +kernel) rfl
theorem q_439 : (Jvm.Cond.instanceMethod ({ cls := "NoteSheet$Reader", name := "sum", desc := "(I)V" } : Jvm.MethodName)) ∈ lw_g := in_t1 (i := 439) (by decide +kernel) rfl
theorem q_440 : (Jvm.Cond.code ({ cls := "NoteSheet$Reader", name := "sum", desc := "(I)V" } : Jvm.MethodName) prog_6_method_9_code (3 : Nat) (Option.none : Option Jvm.ClassFile.FieldType)) ∈ lw_g := in_t1 (i := 440) (by decide +kernel) rfl
theorem q_441 : (Jvm.Cond.methodLink "NoteSheet$Reader" (88 : Nat) ({ cls := "NoteSheet$Reader", name := "product", desc := "(I)V" } : Jvm.MethodName)) ∈ lw_g := in_t1 (i := 441) (by decide +kernel) rfl
theorem q_443 : (Jvm.Cond.instanceMethod ({ cls := "NoteSheet$Reader", name := "product", desc := "(I)V" } : Jvm.MethodName)) ∈ lw_g := in_t1 (i := 443) (by decide +kernel) rfl
theorem q_444 : (Jvm.Cond.code ({ cls := "NoteSheet$Reader", name := "product", desc := "(I)V" } : Jvm.MethodName) prog_6_method_10_code (2 : Nat) (Option.none : Option Jvm.ClassFile.FieldType)) ∈ lw_g := in_t1 (i := 444) (by decide +kernel) rfl
theorem q_445 : (Jvm.Cond.methodLink "NoteSheet$Reader" (97 : Nat) ({ cls := "NoteSheet$Reader", name := "unitIn", desc := "(I)V" } : Jvm.MethodName)) ∈ lw_g := in_t1 (i := 445) (by decide +kernel) rfl
theorem q_447 : (Jvm.Cond.instanceMethod ({ cls := "NoteSheet$Reader", name := "unitIn", desc := "(I)V" } : Jvm.MethodName)) ∈ lw_g := in_t1 (i := 447) (by decide +kernel) rfl
theorem q_448 : (Jvm.Cond.code ({ cls := "NoteSheet$Reader", name := "unitIn", desc := "(I)V" } : Jvm.MethodName) prog_6_method_11_code (2 : Nat) (Option.none : Option Jvm.ClassFile.FieldType)) ∈ lw_g := in_t1 (i := 448) (by decide +kernel) rfl
theorem q_449 : (Jvm.Cond.methodLink "NoteSheet$Reader" (103 : Nat) ({ cls := "NoteSheet$Reader", name := "unit", desc := "(I)V" } : Jvm.MethodName)) ∈ lw_g := in_t1 (i := 449) (by decide +kernel) rfl
theorem q_451 : (Jvm.Cond.instanceMethod ({ cls := "NoteSheet$Reader", name := "unit", desc := "(I)V" } : Jvm.MethodName)) ∈ lw_g := in_t1 (i := 451) (by decide +kernel) rfl
theorem q_452 : (Jvm.Cond.code ({ cls := "NoteSheet$Reader", name := "unit", desc := "(I)V" } : Jvm.MethodName) prog_6_method_12_code (5 : Nat) (Option.none : Option Jvm.ClassFile.FieldType)) ∈ lw_g := in_t1 (i := 452) (by decide +kernel) rfl
theorem q_453 : (Jvm.Cond.methodLink "NoteSheet$Reader" (43 : Nat) ({ cls := "NoteSheet$Reader", name := "peek", desc := "()C" } : Jvm.MethodName)) ∈ lw_g := in_t1 (i := 453) (by decide +kernel) rfl
theorem q_455 : (Jvm.Cond.instanceMethod ({ cls := "NoteSheet$Reader", name := "peek", desc := "()C" } : Jvm.MethodName)) ∈ lw_g := in_t1 (i := 455) (by decide +kernel) rfl
theorem q_456 : (Jvm.Cond.code ({ cls := "NoteSheet$Reader", name := "peek", desc := "()C" } : Jvm.MethodName) prog_6_method_2_code (1 : Nat) (Option.some Jvm.ClassFile.FieldType.char)) ∈ lw_g := in_t1 (i := 456) (by decide +kernel) rfl
theorem q_457 : (Jvm.Cond.methodLink "NoteSheet$Reader" (29 : Nat) ({ cls := "java/lang/String", name := "length", desc := "()I" } : Jvm.MethodName)) ∈ lw_g := in_t1 (i := 457) (by decide +kernel) rfl
theorem q_458 : (Jvm.Cond.methodLink "NoteSheet$Reader" (39 : Nat) ({ cls := "java/lang/String", name := "charAt", desc := "(I)C" } : Jvm.MethodName)) ∈ lw_g := in_t1 (i := 458) (by decide +kernel) rfl
theorem q_459 : (Jvm.Cond.instanceMethod ({ cls := "java/lang/String", name := "charAt", desc := "(I)C" } : Jvm.MethodName)) ∈ lw_g := in_t1 (i := 459) (by decide +kernel) rfl
theorem q_460 : (Jvm.Cond.selects "java/lang/String" ({ cls := "java/lang/String", name := "charAt", desc := "(I)C" } : Jvm.MethodName) ({ cls := "java/lang/String", name := "charAt", desc := "(I)C" } : Jvm.MethodName)) ∈ lw_g := in_t1 (i := 460) (by decide +kernel) rfl
theorem q_461 : (Jvm.Cond.code ({ cls := "java/lang/String", name := "charAt", desc := "(I)C" } : Jvm.MethodName) prog_14_method_56_code (2 : Nat) (Option.some Jvm.ClassFile.FieldType.char)) ∈ lw_g := in_t1 (i := 461) (by decide +kernel) rfl
theorem q_462 : (Jvm.Cond.methodLink "java/lang/String" (495 : Nat) ({ cls := "java/lang/StringLatin1", name := "charAt", desc := "([BI)C" } : Jvm.MethodName)) ∈ lw_g := in_t1 (i := 462) (by decide +kernel) rfl
theorem q_463 : (Jvm.Cond.static ({ cls := "java/lang/StringLatin1", name := "charAt", desc := "([BI)C" } : Jvm.MethodName)) ∈ lw_g := in_t1 (i := 463) (by decide +kernel) rfl
theorem q_464 : (Jvm.Cond.code ({ cls := "java/lang/StringLatin1", name := "charAt", desc := "([BI)C" } : Jvm.MethodName) prog_16_method_2_code (2 : Nat) (Option.some Jvm.ClassFile.FieldType.char)) ∈ lw_g := in_t1 (i := 464) (by decide +kernel) rfl
theorem q_465 : (Jvm.Cond.methodLink "java/lang/StringLatin1" (9 : Nat) ({ cls := "java/lang/String", name := "checkIndex", desc := "(II)V" } : Jvm.MethodName)) ∈ lw_g := in_t1 (i := 465) (by decide +kernel) rfl
theorem q_469 : (Jvm.Cond.fieldLink "NoteSheet$Reader" (106 : Nat) "NoteSheet$Op" "READ" "LNoteSheet$Op;") ∈ lw_g := in_t1 (i := 469) (by decide +kernel) rfl
theorem q_471 : (Jvm.Cond.methodLink "NoteSheet$Reader" (62 : Nat) ({ cls := "NoteSheet$Reader", name := "put", desc := "(LNoteSheet$Op;I)I" } : Jvm.MethodName)) ∈ lw_g := in_t1 (i := 471) (by decide +kernel) rfl
theorem q_473 : (Jvm.Cond.instanceMethod ({ cls := "NoteSheet$Reader", name := "put", desc := "(LNoteSheet$Op;I)I" } : Jvm.MethodName)) ∈ lw_g := in_t1 (i := 473) (by decide +kernel) rfl
theorem q_474 : (Jvm.Cond.code ({ cls := "NoteSheet$Reader", name := "put", desc := "(LNoteSheet$Op;I)I" } : Jvm.MethodName) prog_6_method_4_code (3 : Nat) (Option.some Jvm.ClassFile.FieldType.int)) ∈ lw_g := in_t1 (i := 474) (by decide +kernel) rfl
theorem q_475 : (Jvm.Cond.fieldLink "NoteSheet$Reader" (109 : Nat) "NoteSheet$Op" "NUMBER" "LNoteSheet$Op;") ∈ lw_g := in_t1 (i := 475) (by decide +kernel) rfl
theorem q_477 : (Jvm.Cond.methodLink "NoteSheet$Reader" (50 : Nat) ({ cls := "NoteSheet$Reader", name := "takes", desc := "(C)Z" } : Jvm.MethodName)) ∈ lw_g := in_t1 (i := 477) (by decide +kernel) rfl
theorem q_479 : (Jvm.Cond.instanceMethod ({ cls := "NoteSheet$Reader", name := "takes", desc := "(C)Z" } : Jvm.MethodName)) ∈ lw_g := in_t1 (i := 479) (by decide +kernel) rfl
theorem q_480 : (Jvm.Cond.code ({ cls := "NoteSheet$Reader", name := "takes", desc := "(C)Z" } : Jvm.MethodName) prog_6_method_3_code (3 : Nat) (Option.some Jvm.ClassFile.FieldType.boolean)) ∈ lw_g := in_t1 (i := 480) (by decide +kernel) rfl
theorem q_481 : (Jvm.Cond.methodLink "NoteSheet$Reader" (66 : Nat) ({ cls := "NoteSheet$Reader", name := "one", desc := "(I)V" } : Jvm.MethodName)) ∈ lw_g := in_t1 (i := 481) (by decide +kernel) rfl
theorem q_483 : (Jvm.Cond.instanceMethod ({ cls := "NoteSheet$Reader", name := "one", desc := "(I)V" } : Jvm.MethodName)) ∈ lw_g := in_t1 (i := 483) (by decide +kernel) rfl
theorem q_484 : (Jvm.Cond.code ({ cls := "NoteSheet$Reader", name := "one", desc := "(I)V" } : Jvm.MethodName) prog_6_method_7_code (2 : Nat) (Option.none : Option Jvm.ClassFile.FieldType)) ∈ lw_g := in_t1 (i := 484) (by decide +kernel) rfl
theorem q_485 : (Jvm.Cond.methodLink "NoteSheet$Reader" (69 : Nat) ({ cls := "NoteSheet$Reader", name := "need", desc := "(C)V" } : Jvm.MethodName)) ∈ lw_g := in_t1 (i := 485) (by decide +kernel) rfl
theorem q_487 : (Jvm.Cond.instanceMethod ({ cls := "NoteSheet$Reader", name := "need", desc := "(C)V" } : Jvm.MethodName)) ∈ lw_g := in_t1 (i := 487) (by decide +kernel) rfl
theorem q_488 : (Jvm.Cond.code ({ cls := "NoteSheet$Reader", name := "need", desc := "(C)V" } : Jvm.MethodName) prog_6_method_5_code (2 : Nat) (Option.none : Option Jvm.ClassFile.FieldType)) ∈ lw_g := in_t1 (i := 488) (by decide +kernel) rfl
theorem q_489 : (Jvm.Cond.fieldLink "NoteSheet$Reader" (112 : Nat) "NoteSheet$Op" "NEGATE" "LNoteSheet$Op;") ∈ lw_g := in_t1 (i := 489) (by decide +kernel) rfl
theorem q_491 : (Jvm.Cond.fieldLink "NoteSheet$Reader" (115 : Nat) "NoteSheet$Op" "FETCH" "LNoteSheet$Op;") ∈ lw_g := in_t1 (i := 491) (by decide +kernel) rfl
theorem q_493 : (Jvm.Cond.fieldLink "NoteSheet$Reader" (100 : Nat) "NoteSheet$Op" "MULTIPLY" "LNoteSheet$Op;") ∈ lw_g := in_t1 (i := 493) (by decide +kernel) rfl
theorem q_495 : (Jvm.Cond.fieldLink "NoteSheet$Reader" (91 : Nat) "NoteSheet$Op" "ADD" "LNoteSheet$Op;") ∈ lw_g := in_t1 (i := 495) (by decide +kernel) rfl
theorem q_497 : (Jvm.Cond.fieldLink "NoteSheet$Reader" (94 : Nat) "NoteSheet$Op" "SUBTRACT" "LNoteSheet$Op;") ∈ lw_g := in_t1 (i := 497) (by decide +kernel) rfl
theorem q_499 : (Jvm.Cond.fieldLink "NoteSheet$Reader" (82 : Nat) "NoteSheet$Op" "LESS" "LNoteSheet$Op;") ∈ lw_g := in_t1 (i := 499) (by decide +kernel) rfl
theorem q_501 : (Jvm.Cond.fieldLink "NoteSheet$Reader" (85 : Nat) "NoteSheet$Op" "EQUAL" "LNoteSheet$Op;") ∈ lw_g := in_t1 (i := 501) (by decide +kernel) rfl
theorem q_503 : (Jvm.Cond.fieldLink "NoteSheet$Reader" (58 : Nat) "NoteSheet$Op" "BRANCH" "LNoteSheet$Op;") ∈ lw_g := in_t1 (i := 503) (by decide +kernel) rfl
theorem q_505 : (Jvm.Cond.fieldLink "NoteSheet$Reader" (73 : Nat) "NoteSheet$Op" "SKIP" "LNoteSheet$Op;") ∈ lw_g := in_t1 (i := 505) (by decide +kernel) rfl
theorem q_507 : (Jvm.Cond.classLink "NoteSheet$Reader" (118 : Nat) "NoteSheet$Formula") ∈ lw_g := in_t1 (i := 507) (by decide +kernel) rfl
theorem q_508 : (Jvm.Cond.instantiable "NoteSheet$Formula" (3 : Nat)) ∈ lw_g := in_t1 (i := 508) (by decide +kernel) rfl
theorem q_509 : (Jvm.Cond.methodLink "NoteSheet$Reader" (120 : Nat) ({ cls := "NoteSheet$Formula", name := "<init>", desc := "(Ljava/lang/String;[LNoteSheet$Op;[II)V" } : Jvm.MethodName)) ∈ lw_g := in_t1 (i := 509) (by decide +kernel) rfl
theorem q_510 : (Jvm.Cond.instanceMethod ({ cls := "NoteSheet$Formula", name := "<init>", desc := "(Ljava/lang/String;[LNoteSheet$Op;[II)V" } : Jvm.MethodName)) ∈ lw_g := in_t1 (i := 510) (by decide +kernel) rfl
theorem q_511 : (Jvm.Cond.code ({ cls := "NoteSheet$Formula", name := "<init>", desc := "(Ljava/lang/String;[LNoteSheet$Op;[II)V" } : Jvm.MethodName) prog_3_method_1_code (6 : Nat) (Option.none : Option Jvm.ClassFile.FieldType)) ∈ lw_g := in_t1 (i := 511) (by decide +kernel) rfl
theorem q_512 : (Jvm.Cond.methodLink "NoteSheet$Formula" (1 : Nat) ({ cls := "java/lang/Object", name := "<init>", desc := "()V" } : Jvm.MethodName)) ∈ lw_g := in_t1 (i := 512) (by decide +kernel) rfl
theorem q_513 : (Jvm.Cond.classLink "NoteSheet$Formula" (13 : Nat) "NoteSheet$Op") ∈ lw_g := in_t1 (i := 513) (by decide +kernel) rfl
theorem q_514 : (Jvm.Cond.fieldLink "NoteSheet$Formula" (7 : Nat) "NoteSheet$Formula" "text" "Ljava/lang/String;") ∈ lw_g := in_t1 (i := 514) (by decide +kernel) rfl
theorem q_516 : (Jvm.Cond.fieldLink "NoteSheet$Formula" (15 : Nat) "NoteSheet$Formula" "ops" "[LNoteSheet$Op;") ∈ lw_g := in_t1 (i := 516) (by decide +kernel) rfl
theorem q_518 : (Jvm.Cond.fieldLink "NoteSheet$Formula" (19 : Nat) "NoteSheet$Formula" "numbers" "[I") ∈ lw_g := in_t1 (i := 518) (by decide +kernel) rfl
theorem q_527 : (Jvm.Cond.methodLink "NoteSheet" (91 : Nat) ({ cls := "java/lang/String", name := "equals", desc := "(Ljava/lang/Object;)Z" } : Jvm.MethodName)) ∈ lw_g := in_t1 (i := 527) (by decide +kernel) rfl
theorem q_528 : (Jvm.Cond.instanceMethod ({ cls := "java/lang/String", name := "equals", desc := "(Ljava/lang/Object;)Z" } : Jvm.MethodName)) ∈ lw_g := in_t1 (i := 528) (by decide +kernel) rfl
theorem q_529 : (Jvm.Cond.selects "java/lang/String" ({ cls := "java/lang/String", name := "equals", desc := "(Ljava/lang/Object;)Z" } : Jvm.MethodName) ({ cls := "java/lang/String", name := "equals", desc := "(Ljava/lang/Object;)Z" } : Jvm.MethodName)) ∈ lw_g := in_t1 (i := 529) (by decide +kernel) rfl
theorem q_530 : (Jvm.Cond.code ({ cls := "java/lang/String", name := "equals", desc := "(Ljava/lang/Object;)Z" } : Jvm.MethodName) prog_14_method_66_code (3 : Nat) (Option.some Jvm.ClassFile.FieldType.boolean)) ∈ lw_g := in_t1 (i := 530) (by decide +kernel) rfl
theorem q_531 : (Jvm.Cond.classLink "java/lang/String" (10 : Nat) "java/lang/String") ∈ lw_g := in_t1 (i := 531) (by decide +kernel) rfl
theorem q_532 : (Jvm.Cond.methodLink "java/lang/String" (541 : Nat) ({ cls := "java/lang/StringLatin1", name := "equals", desc := "([B[B)Z" } : Jvm.MethodName)) ∈ lw_g := in_t1 (i := 532) (by decide +kernel) rfl
theorem q_533 : (Jvm.Cond.static ({ cls := "java/lang/StringLatin1", name := "equals", desc := "([B[B)Z" } : Jvm.MethodName)) ∈ lw_g := in_t1 (i := 533) (by decide +kernel) rfl
theorem q_534 : (Jvm.Cond.code ({ cls := "java/lang/StringLatin1", name := "equals", desc := "([B[B)Z" } : Jvm.MethodName) prog_16_method_13_code (3 : Nat) (Option.some Jvm.ClassFile.FieldType.boolean)) ∈ lw_g := in_t1 (i := 534) (by decide +kernel) rfl
theorem q_535 : (Jvm.Cond.methodLink "NoteSheet" (98 : Nat) ({ cls := "NoteSheet", name := "change", desc := "(I)V" } : Jvm.MethodName)) ∈ lw_g := in_t1 (i := 535) (by decide +kernel) rfl
theorem q_537 : (Jvm.Cond.instanceMethod ({ cls := "NoteSheet", name := "change", desc := "(I)V" } : Jvm.MethodName)) ∈ lw_g := in_t1 (i := 537) (by decide +kernel) rfl
theorem q_538 : (Jvm.Cond.code ({ cls := "NoteSheet", name := "change", desc := "(I)V" } : Jvm.MethodName) prog_1_method_4_code (3 : Nat) (Option.none : Option Jvm.ClassFile.FieldType)) ∈ lw_g := in_t1 (i := 538) (by decide +kernel) rfl
theorem q_547 : (Jvm.Cond.constantLong "NoteSheet" (217 : Nat) (-1 : Int64)) ∈ lw_g := in_t1 (i := 547) (by decide +kernel) rfl
theorem q_548 : (Jvm.Cond.methodLink "NoteSheet" (187 : Nat) ({ cls := "NoteSheet", name := "value", desc := "(LNoteSheet$Cell;)J" } : Jvm.MethodName)) ∈ lw_g := in_t1 (i := 548) (by decide +kernel) rfl
theorem q_550 : (Jvm.Cond.instanceMethod ({ cls := "NoteSheet", name := "value", desc := "(LNoteSheet$Cell;)J" } : Jvm.MethodName)) ∈ lw_g := in_t1 (i := 550) (by decide +kernel) rfl
theorem q_551 : (Jvm.Cond.code ({ cls := "NoteSheet", name := "value", desc := "(LNoteSheet$Cell;)J" } : Jvm.MethodName) prog_1_method_11_code (2 : Nat) (Option.some Jvm.ClassFile.FieldType.long)) ∈ lw_g := in_t1 (i := 551) (by decide +kernel) rfl
theorem q_552 : (Jvm.Cond.methodLink "NoteSheet" (145 : Nat) ({ cls := "NoteSheet", name := "bring", desc := "(LNoteSheet$Cell;)V" } : Jvm.MethodName)) ∈ lw_g := in_t1 (i := 552) (by decide +kernel) rfl
theorem q_554 : (Jvm.Cond.instanceMethod ({ cls := "NoteSheet", name := "bring", desc := "(LNoteSheet$Cell;)V" } : Jvm.MethodName)) ∈ lw_g := in_t1 (i := 554) (by decide +kernel) rfl
theorem q_555 : (Jvm.Cond.code ({ cls := "NoteSheet", name := "bring", desc := "(LNoteSheet$Cell;)V" } : Jvm.MethodName) prog_1_method_7_code (2 : Nat) (Option.none : Option Jvm.ClassFile.FieldType)) ∈ lw_g := in_t1 (i := 555) (by decide +kernel) rfl
theorem q_556 : (Jvm.Cond.methodLink "NoteSheet" (127 : Nat) ({ cls := "NoteSheet", name := "unchanged", desc := "(LNoteSheet$Note;)Z" } : Jvm.MethodName)) ∈ lw_g := in_t1 (i := 556) (by decide +kernel) rfl
theorem q_558 : (Jvm.Cond.instanceMethod ({ cls := "NoteSheet", name := "unchanged", desc := "(LNoteSheet$Note;)Z" } : Jvm.MethodName)) ∈ lw_g := in_t1 (i := 558) (by decide +kernel) rfl
theorem q_559 : (Jvm.Cond.code ({ cls := "NoteSheet", name := "unchanged", desc := "(LNoteSheet$Note;)Z" } : Jvm.MethodName) prog_1_method_8_code (5 : Nat) (Option.some Jvm.ClassFile.FieldType.boolean)) ∈ lw_g := in_t1 (i := 559) (by decide +kernel) rfl
theorem q_560 : (Jvm.Cond.methodLink "NoteSheet" (148 : Nat) ({ cls := "NoteSheet$Cell", name := "sinceWhen", desc := "()I" } : Jvm.MethodName)) ∈ lw_g := in_t1 (i := 560) (by decide +kernel) rfl
theorem q_561 : (Jvm.Cond.instanceMethod ({ cls := "NoteSheet$Cell", name := "sinceWhen", desc := "()I" } : Jvm.MethodName)) ∈ lw_g := in_t1 (i := 561) (by decide +kernel) rfl
theorem q_562 : (Jvm.Cond.selects "NoteSheet$Cell" ({ cls := "NoteSheet$Cell", name := "sinceWhen", desc := "()I" } : Jvm.MethodName) ({ cls := "NoteSheet$Cell", name := "sinceWhen", desc := "()I" } : Jvm.MethodName)) ∈ lw_g := in_t1 (i := 562) (by decide +kernel) rfl
theorem q_563 : (Jvm.Cond.code ({ cls := "NoteSheet$Cell", name := "sinceWhen", desc := "()I" } : Jvm.MethodName) prog_2_method_2_code (1 : Nat) (Option.some Jvm.ClassFile.FieldType.int)) ∈ lw_g := in_t1 (i := 563) (by decide +kernel) rfl
theorem q_564 : (Jvm.Cond.methodLink "NoteSheet" (151 : Nat) ({ cls := "NoteSheet$Cell", name := "steady", desc := "()I" } : Jvm.MethodName)) ∈ lw_g := in_t1 (i := 564) (by decide +kernel) rfl
theorem q_565 : (Jvm.Cond.instanceMethod ({ cls := "NoteSheet$Cell", name := "steady", desc := "()I" } : Jvm.MethodName)) ∈ lw_g := in_t1 (i := 565) (by decide +kernel) rfl
theorem q_566 : (Jvm.Cond.selects "NoteSheet$Cell" ({ cls := "NoteSheet$Cell", name := "steady", desc := "()I" } : Jvm.MethodName) ({ cls := "NoteSheet$Cell", name := "steady", desc := "()I" } : Jvm.MethodName)) ∈ lw_g := in_t1 (i := 566) (by decide +kernel) rfl
theorem q_567 : (Jvm.Cond.code ({ cls := "NoteSheet$Cell", name := "steady", desc := "()I" } : Jvm.MethodName) prog_2_method_3_code (1 : Nat) (Option.some Jvm.ClassFile.FieldType.int)) ∈ lw_g := in_t1 (i := 567) (by decide +kernel) rfl
theorem q_568 : (Jvm.Cond.methodLink "NoteSheet" (154 : Nat) ({ cls := "java/lang/Math", name := "min", desc := "(II)I" } : Jvm.MethodName)) ∈ lw_g := in_t1 (i := 568) (by decide +kernel) rfl
theorem q_569 : (Jvm.Cond.methodLink "NoteSheet" (135 : Nat) ({ cls := "NoteSheet", name := "workOut", desc := "(LNoteSheet$Cell;)V" } : Jvm.MethodName)) ∈ lw_g := in_t1 (i := 569) (by decide +kernel) rfl
theorem q_571 : (Jvm.Cond.instanceMethod ({ cls := "NoteSheet", name := "workOut", desc := "(LNoteSheet$Cell;)V" } : Jvm.MethodName)) ∈ lw_g := in_t1 (i := 571) (by decide +kernel) rfl
theorem q_572 : (Jvm.Cond.code ({ cls := "NoteSheet", name := "workOut", desc := "(LNoteSheet$Cell;)V" } : Jvm.MethodName) prog_1_method_9_code (6 : Nat) (Option.none : Option Jvm.ClassFile.FieldType)) ∈ lw_g := in_t1 (i := 572) (by decide +kernel) rfl
theorem q_573 : (Jvm.Cond.classLink "NoteSheet" (118 : Nat) "NoteSheet$Note") ∈ lw_g := in_t1 (i := 573) (by decide +kernel) rfl
theorem q_574 : (Jvm.Cond.instantiable "NoteSheet$Note" (8 : Nat)) ∈ lw_g := in_t1 (i := 574) (by decide +kernel) rfl
theorem q_576 : (Jvm.Cond.instanceMethod ({ cls := "NoteSheet$Note", name := "<init>", desc := "()V" } : Jvm.MethodName)) ∈ lw_g := in_t1 (i := 576) (by decide +kernel) rfl
theorem q_577 : (Jvm.Cond.code ({ cls := "NoteSheet$Note", name := "<init>", desc := "()V" } : Jvm.MethodName) prog_4_method_1_code (1 : Nat) (Option.none : Option Jvm.ClassFile.FieldType)) ∈ lw_g := in_t1 (i := 577) (by decide +kernel) rfl
theorem q_578 : (Jvm.Cond.methodLink "NoteSheet$Note" (3 : Nat) ({ cls := "java/lang/Object", name := "<init>", desc := "()V" } : Jvm.MethodName)) ∈ lw_g := in_t1 (i := 578) (by decide +kernel) rfl
theorem q_579 : (Jvm.Cond.classLink "NoteSheet$Note" (9 : Nat) "NoteSheet$Cell") ∈ lw_g := in_t1 (i := 579) (by decide +kernel) rfl
theorem q_588 : (Jvm.Cond.fieldLink "NoteSheet$Note" (11 : Nat) "NoteSheet$Note" "reads" "[LNoteSheet$Cell;") ∈ lw_g := in_t1 (i := 588) (by decide +kernel) rfl
theorem q_590 : (Jvm.Cond.fieldLink "NoteSheet$Note" (17 : Nat) "NoteSheet$Note" "count" "I") ∈ lw_g := in_t1 (i := 590) (by decide +kernel) rfl
theorem q_609 : (Jvm.Cond.methodLink "NoteSheet" (165 : Nat) ({ cls := "NoteSheet", name := "result", desc := "(LNoteSheet$Formula;LNoteSheet$Note;)J" } : Jvm.MethodName)) ∈ lw_g := in_t1 (i := 609) (by decide +kernel) rfl
theorem q_611 : (Jvm.Cond.instanceMethod ({ cls := "NoteSheet", name := "result", desc := "(LNoteSheet$Formula;LNoteSheet$Note;)J" } : Jvm.MethodName)) ∈ lw_g := in_t1 (i := 611) (by decide +kernel) rfl
theorem q_612 : (Jvm.Cond.code ({ cls := "NoteSheet", name := "result", desc := "(LNoteSheet$Formula;LNoteSheet$Note;)J" } : Jvm.MethodName) prog_1_method_12_code (10 : Nat) (Option.some Jvm.ClassFile.FieldType.long)) ∈ lw_g := in_t1 (i := 612) (by decide +kernel) rfl
theorem q_613 : (Jvm.Cond.methodLink "NoteSheet" (197 : Nat) ({ cls := "NoteSheet$Op", name := "ordinal", desc := "()I" } : Jvm.MethodName)) ∈ lw_g := in_t1 (i := 613) (by decide +kernel) rfl
theorem q_614 : (Jvm.Cond.sameMethod "NoteSheet$Op" "java/lang/Enum" "ordinal" "()I") ∈ lw_g := in_t1 (i := 614) (by decide +kernel) rfl
theorem q_616 : (Jvm.Cond.selects "NoteSheet$Op" ({ cls := "NoteSheet$Op", name := "ordinal", desc := "()I" } : Jvm.MethodName) ({ cls := "java/lang/Enum", name := "ordinal", desc := "()I" } : Jvm.MethodName)) ∈ lw_g := in_t1 (i := 616) (by decide +kernel) rfl
theorem q_617 : (Jvm.Cond.instanceMethod ({ cls := "java/lang/Enum", name := "ordinal", desc := "()I" } : Jvm.MethodName)) ∈ lw_g := in_t1 (i := 617) (by decide +kernel) rfl
theorem q_618 : (Jvm.Cond.code ({ cls := "java/lang/Enum", name := "ordinal", desc := "()I" } : Jvm.MethodName) prog_12_method_2_code (1 : Nat) (Option.some Jvm.ClassFile.FieldType.int)) ∈ lw_g := in_t1 (i := 618) (by decide +kernel) rfl
theorem q_619 : (Jvm.Cond.fieldLink "NoteSheet" (202 : Nat) "NoteSheet$Op" "READ" "LNoteSheet$Op;") ∈ lw_g := in_t1 (i := 619) (by decide +kernel) rfl
theorem q_620 : (Jvm.Cond.methodLink "NoteSheet" (206 : Nat) ({ cls := "NoteSheet", name := "given", desc := "(LNoteSheet$Cell;LNoteSheet$Note;)J" } : Jvm.MethodName)) ∈ lw_g := in_t1 (i := 620) (by decide +kernel) rfl
theorem q_622 : (Jvm.Cond.instanceMethod ({ cls := "NoteSheet", name := "given", desc := "(LNoteSheet$Cell;LNoteSheet$Note;)J" } : Jvm.MethodName)) ∈ lw_g := in_t1 (i := 622) (by decide +kernel) rfl
theorem q_623 : (Jvm.Cond.code ({ cls := "NoteSheet", name := "given", desc := "(LNoteSheet$Cell;LNoteSheet$Note;)J" } : Jvm.MethodName) prog_1_method_10_code (5 : Nat) (Option.some Jvm.ClassFile.FieldType.long)) ∈ lw_g := in_t1 (i := 623) (by decide +kernel) rfl
theorem q_624 : (Jvm.Cond.methodLink "NoteSheet" (182 : Nat) ({ cls := "NoteSheet$Note", name := "add", desc := "(LNoteSheet$Cell;)V" } : Jvm.MethodName)) ∈ lw_g := in_t1 (i := 624) (by decide +kernel) rfl
theorem q_625 : (Jvm.Cond.instanceMethod ({ cls := "NoteSheet$Note", name := "add", desc := "(LNoteSheet$Cell;)V" } : Jvm.MethodName)) ∈ lw_g := in_t1 (i := 625) (by decide +kernel) rfl
theorem q_626 : (Jvm.Cond.selects "NoteSheet$Note" ({ cls := "NoteSheet$Note", name := "add", desc := "(LNoteSheet$Cell;)V" } : Jvm.MethodName) ({ cls := "NoteSheet$Note", name := "add", desc := "(LNoteSheet$Cell;)V" } : Jvm.MethodName)) ∈ lw_g := in_t1 (i := 626) (by decide +kernel) rfl
theorem q_627 : (Jvm.Cond.code ({ cls := "NoteSheet$Note", name := "add", desc := "(LNoteSheet$Cell;)V" } : Jvm.MethodName) prog_4_method_2_code (3 : Nat) (Option.none : Option Jvm.ClassFile.FieldType)) ∈ lw_g := in_t1 (i := 627) (by decide +kernel) rfl
theorem q_628 : (Jvm.Cond.constantLong "NoteSheet" (185 : Nat) (1099511627776 : Int64)) ∈ lw_g := in_t1 (i := 628) (by decide +kernel) rfl
theorem q_629 : (Jvm.Cond.methodLink "NoteSheet" (210 : Nat) ({ cls := "java/lang/Math", name := "floorMod", desc := "(II)I" } : Jvm.MethodName)) ∈ lw_g := in_t1 (i := 629) (by decide +kernel) rfl
theorem q_630 : (Jvm.Cond.static ({ cls := "java/lang/Math", name := "floorMod", desc := "(II)I" } : Jvm.MethodName)) ∈ lw_g := in_t1 (i := 630) (by decide +kernel) rfl
theorem q_631 : (Jvm.Cond.code ({ cls := "java/lang/Math", name := "floorMod", desc := "(II)I" } : Jvm.MethodName) prog_13_method_50_code (3 : Nat) (Option.some Jvm.ClassFile.FieldType.int)) ∈ lw_g := in_t1 (i := 631) (by decide +kernel) rfl
theorem q_632 : (Jvm.Cond.methodLink "NoteSheet" (213 : Nat) ({ cls := "NoteSheet", name := "both", desc := "(LNoteSheet$Op;JJ)J" } : Jvm.MethodName)) ∈ lw_g := in_t1 (i := 632) (by decide +kernel) rfl
theorem q_633 : (Jvm.Cond.static ({ cls := "NoteSheet", name := "both", desc := "(LNoteSheet$Op;JJ)J" } : Jvm.MethodName)) ∈ lw_g := in_t1 (i := 633) (by decide +kernel) rfl
theorem q_634 : (Jvm.Cond.code ({ cls := "NoteSheet", name := "both", desc := "(LNoteSheet$Op;JJ)J" } : Jvm.MethodName) prog_1_method_13_code (5 : Nat) (Option.some Jvm.ClassFile.FieldType.long)) ∈ lw_g := in_t1 (i := 634) (by decide +kernel) rfl
theorem q_635 : (Jvm.Cond.methodLink "NoteSheet" (219 : Nat) ({ cls := "NoteSheet", name := "held", desc := "()I" } : Jvm.MethodName)) ∈ lw_g := in_t1 (i := 635) (by decide +kernel) rfl
theorem q_637 : (Jvm.Cond.instanceMethod ({ cls := "NoteSheet", name := "held", desc := "()I" } : Jvm.MethodName)) ∈ lw_g := in_t1 (i := 637) (by decide +kernel) rfl
theorem q_638 : (Jvm.Cond.code ({ cls := "NoteSheet", name := "held", desc := "()I" } : Jvm.MethodName) prog_1_method_14_code (3 : Nat) (Option.some Jvm.ClassFile.FieldType.int)) ∈ lw_g := in_t1 (i := 638) (by decide +kernel) rfl
theorem q_639 : (Jvm.Cond.methodLink "NoteSheet" (222 : Nat) ({ cls := "NoteSheet", name := "dropOne", desc := "()V" } : Jvm.MethodName)) ∈ lw_g := in_t1 (i := 639) (by decide +kernel) rfl
theorem q_641 : (Jvm.Cond.instanceMethod ({ cls := "NoteSheet", name := "dropOne", desc := "()V" } : Jvm.MethodName)) ∈ lw_g := in_t1 (i := 641) (by decide +kernel) rfl
theorem q_642 : (Jvm.Cond.code ({ cls := "NoteSheet", name := "dropOne", desc := "()V" } : Jvm.MethodName) prog_1_method_15_code (4 : Nat) (Option.none : Option Jvm.ClassFile.FieldType)) ∈ lw_g := in_t1 (i := 642) (by decide +kernel) rfl
theorem q_643 : (Jvm.Cond.arrayClass Jvm.ClassFile.FieldType.long) ∈ lw_g := in_t1 (i := 643) (by decide +kernel) rfl
theorem q_672 : (Jvm.Cond.methodLink "NoteSheetModel" (1 : Nat) ({ cls := "java/lang/Object", name := "<init>", desc := "()V" } : Jvm.MethodName)) ∈ lw_g := in_t1 (i := 672) (by decide +kernel) rfl
theorem q_803 : (Jvm.Cond.arrayClass Jvm.ClassFile.FieldType.boolean) ∈ lw_g := in_t1 (i := 803) (by decide +kernel) rfl
theorem q_970 : (Jvm.Cond.sameMethod "java/lang/AbstractStringBuilder" "java/lang/AbstractStringBuilder" "length" "()I") ∈ lw_g := in_t1 (i := 970) (by decide +kernel) rfl
theorem q_971 : (Jvm.Cond.sameMethod "java/lang/AbstractStringBuilder" "java/lang/AbstractStringBuilder" "append" "(C)Ljava/lang/AbstractStringBuilder;") ∈ lw_g := in_t1 (i := 971) (by decide +kernel) rfl
theorem q_972 : (Jvm.Cond.sameMethod "java/lang/AbstractStringBuilder" "java/lang/AbstractStringBuilder" "ensureCapacityInternal" "(I)V") ∈ lw_g := in_t1 (i := 972) (by decide +kernel) rfl
theorem q_973 : (Jvm.Cond.sameMethod "java/lang/AbstractStringBuilder" "java/lang/AbstractStringBuilder" "newCapacity" "(I)I") ∈ lw_g := in_t1 (i := 973) (by decide +kernel) rfl
theorem q_975 : (Jvm.Cond.selects "java/lang/StringBuilder" ({ cls := "java/lang/AbstractStringBuilder", name := "length", desc := "()I" } : Jvm.MethodName) ({ cls := "java/lang/StringBuilder", name := "length", desc := "()I" } : Jvm.MethodName)) ∈ lw_g := in_t1 (i := 975) (by decide +kernel) rfl
theorem q_976 : (Jvm.Cond.sameMethod "java/lang/AbstractStringBuilder" "java/lang/AbstractStringBuilder" "setLength" "(I)V") ∈ lw_g := in_t1 (i := 976) (by decide +kernel) rfl
theorem q_977 : (Jvm.Cond.fieldLink "java/lang/Enum" (7 : Nat) "java/lang/Enum" "ordinal" "I") ∈ lw_g := in_t1 (i := 977) (by decide +kernel) rfl
theorem q_p0 : Cond.selects "NoteSheet" ⟨"NoteSheet", "cell", "(I)LNoteSheet$Cell;"⟩ ⟨"NoteSheet", "cell", "(I)LNoteSheet$Cell;"⟩ ∈ lw_g := in_pr (q := (⟨"NoteSheet", "cell", "(I)LNoteSheet$Cell;"⟩, 10)) (i := 0) (by decide +kernel)
theorem q_p1 : Cond.selects "NoteSheet$Reader" ⟨"NoteSheet$Reader", "formula", "(I)V"⟩ ⟨"NoteSheet$Reader", "formula", "(I)V"⟩ ∈ lw_g := in_pr (q := (⟨"NoteSheet$Reader", "formula", "(I)V"⟩, 6)) (i := 1) (by decide +kernel)
theorem q_p2 : Cond.selects "NoteSheet$Reader" ⟨"NoteSheet$Reader", "comparison", "(I)V"⟩ ⟨"NoteSheet$Reader", "comparison", "(I)V"⟩ ∈ lw_g := in_pr (q := (⟨"NoteSheet$Reader", "comparison", "(I)V"⟩, 6)) (i := 2) (by decide +kernel)
theorem q_p3 : Cond.selects "NoteSheet$Reader" ⟨"NoteSheet$Reader", "sum", "(I)V"⟩ ⟨"NoteSheet$Reader", "sum", "(I)V"⟩ ∈ lw_g := in_pr (q := (⟨"NoteSheet$Reader", "sum", "(I)V"⟩, 6)) (i := 3) (by decide +kernel)
theorem q_p4 : Cond.selects "NoteSheet$Reader" ⟨"NoteSheet$Reader", "product", "(I)V"⟩ ⟨"NoteSheet$Reader", "product", "(I)V"⟩ ∈ lw_g := in_pr (q := (⟨"NoteSheet$Reader", "product", "(I)V"⟩, 6)) (i := 4) (by decide +kernel)
theorem q_p5 : Cond.selects "NoteSheet$Reader" ⟨"NoteSheet$Reader", "unitIn", "(I)V"⟩ ⟨"NoteSheet$Reader", "unitIn", "(I)V"⟩ ∈ lw_g := in_pr (q := (⟨"NoteSheet$Reader", "unitIn", "(I)V"⟩, 6)) (i := 5) (by decide +kernel)
theorem q_p6 : Cond.selects "NoteSheet$Reader" ⟨"NoteSheet$Reader", "unit", "(I)V"⟩ ⟨"NoteSheet$Reader", "unit", "(I)V"⟩ ∈ lw_g := in_pr (q := (⟨"NoteSheet$Reader", "unit", "(I)V"⟩, 6)) (i := 6) (by decide +kernel)
theorem q_p7 : Cond.selects "NoteSheet$Reader" ⟨"NoteSheet$Reader", "peek", "()C"⟩ ⟨"NoteSheet$Reader", "peek", "()C"⟩ ∈ lw_g := in_pr (q := (⟨"NoteSheet$Reader", "peek", "()C"⟩, 6)) (i := 7) (by decide +kernel)
theorem q_p8 : Cond.selects "NoteSheet$Reader" ⟨"NoteSheet$Reader", "put", "(LNoteSheet$Op;I)I"⟩ ⟨"NoteSheet$Reader", "put", "(LNoteSheet$Op;I)I"⟩ ∈ lw_g := in_pr (q := (⟨"NoteSheet$Reader", "put", "(LNoteSheet$Op;I)I"⟩, 6)) (i := 8) (by decide +kernel)
theorem q_p9 : Cond.selects "NoteSheet$Reader" ⟨"NoteSheet$Reader", "takes", "(C)Z"⟩ ⟨"NoteSheet$Reader", "takes", "(C)Z"⟩ ∈ lw_g := in_pr (q := (⟨"NoteSheet$Reader", "takes", "(C)Z"⟩, 6)) (i := 9) (by decide +kernel)
theorem q_p10 : Cond.selects "NoteSheet$Reader" ⟨"NoteSheet$Reader", "one", "(I)V"⟩ ⟨"NoteSheet$Reader", "one", "(I)V"⟩ ∈ lw_g := in_pr (q := (⟨"NoteSheet$Reader", "one", "(I)V"⟩, 6)) (i := 10) (by decide +kernel)
theorem q_p11 : Cond.selects "NoteSheet$Reader" ⟨"NoteSheet$Reader", "need", "(C)V"⟩ ⟨"NoteSheet$Reader", "need", "(C)V"⟩ ∈ lw_g := in_pr (q := (⟨"NoteSheet$Reader", "need", "(C)V"⟩, 6)) (i := 11) (by decide +kernel)
theorem q_p12 : Cond.selects "NoteSheet" ⟨"NoteSheet", "change", "(I)V"⟩ ⟨"NoteSheet", "change", "(I)V"⟩ ∈ lw_g := in_pr (q := (⟨"NoteSheet", "change", "(I)V"⟩, 10)) (i := 12) (by decide +kernel)
theorem q_p13 : Cond.selects "NoteSheet" ⟨"NoteSheet", "value", "(LNoteSheet$Cell;)J"⟩ ⟨"NoteSheet", "value", "(LNoteSheet$Cell;)J"⟩ ∈ lw_g := in_pr (q := (⟨"NoteSheet", "value", "(LNoteSheet$Cell;)J"⟩, 10)) (i := 13) (by decide +kernel)
theorem q_p14 : Cond.selects "NoteSheet" ⟨"NoteSheet", "bring", "(LNoteSheet$Cell;)V"⟩ ⟨"NoteSheet", "bring", "(LNoteSheet$Cell;)V"⟩ ∈ lw_g := in_pr (q := (⟨"NoteSheet", "bring", "(LNoteSheet$Cell;)V"⟩, 10)) (i := 14) (by decide +kernel)
theorem q_p15 : Cond.selects "NoteSheet" ⟨"NoteSheet", "unchanged", "(LNoteSheet$Note;)Z"⟩ ⟨"NoteSheet", "unchanged", "(LNoteSheet$Note;)Z"⟩ ∈ lw_g := in_pr (q := (⟨"NoteSheet", "unchanged", "(LNoteSheet$Note;)Z"⟩, 10)) (i := 15) (by decide +kernel)
theorem q_p16 : Cond.selects "NoteSheet" ⟨"NoteSheet", "workOut", "(LNoteSheet$Cell;)V"⟩ ⟨"NoteSheet", "workOut", "(LNoteSheet$Cell;)V"⟩ ∈ lw_g := in_pr (q := (⟨"NoteSheet", "workOut", "(LNoteSheet$Cell;)V"⟩, 10)) (i := 16) (by decide +kernel)
theorem q_p17 : Cond.selects "NoteSheet" ⟨"NoteSheet", "result", "(LNoteSheet$Formula;LNoteSheet$Note;)J"⟩ ⟨"NoteSheet", "result", "(LNoteSheet$Formula;LNoteSheet$Note;)J"⟩ ∈ lw_g := in_pr (q := (⟨"NoteSheet", "result", "(LNoteSheet$Formula;LNoteSheet$Note;)J"⟩, 10)) (i := 17) (by decide +kernel)
theorem q_p18 : Cond.selects "NoteSheet" ⟨"NoteSheet", "given", "(LNoteSheet$Cell;LNoteSheet$Note;)J"⟩ ⟨"NoteSheet", "given", "(LNoteSheet$Cell;LNoteSheet$Note;)J"⟩ ∈ lw_g := in_pr (q := (⟨"NoteSheet", "given", "(LNoteSheet$Cell;LNoteSheet$Note;)J"⟩, 10)) (i := 18) (by decide +kernel)
theorem q_p19 : Cond.selects "NoteSheet" ⟨"NoteSheet", "held", "()I"⟩ ⟨"NoteSheet", "held", "()I"⟩ ∈ lw_g := in_pr (q := (⟨"NoteSheet", "held", "()I"⟩, 10)) (i := 19) (by decide +kernel)
theorem q_p20 : Cond.selects "NoteSheet" ⟨"NoteSheet", "dropOne", "()V"⟩ ⟨"NoteSheet", "dropOne", "()V"⟩ ∈ lw_g := in_pr (q := (⟨"NoteSheet", "dropOne", "()V"⟩, 10)) (i := 20) (by decide +kernel)
theorem qn_29 : (Jvm.Cond.arrayOver (Jvm.ClassFile.FieldType.object "NoteSheet$Cell")) ∈ lw_n := in_n1 (i := 29) (by decide +kernel) rfl
theorem qn_65 : (Jvm.Cond.methodLinkNest "NoteSheet" (24 : Nat) ({ cls := "NoteSheet$Reader", name := "<init>", desc := "()V" } : Jvm.MethodName) "NoteSheet") ∈ lw_n := in_n1 (i := 65) (by decide +kernel) rfl
theorem qn_70 : (Jvm.Cond.arrayOver (Jvm.ClassFile.FieldType.object "NoteSheet$Op")) ∈ lw_n := in_n1 (i := 70) (by decide +kernel) rfl
theorem qn_73 : (Jvm.Cond.fieldLinkNest "NoteSheet" (74 : Nat) "NoteSheet$Reader" "at" "I" "NoteSheet") ∈ lw_n := in_n1 (i := 73) (by decide +kernel) rfl
theorem qn_98 : (Jvm.Cond.fieldLinkNest "NoteSheet" (225 : Nat) "NoteSheet$Cell" "number" "I" "NoteSheet") ∈ lw_n := in_n1 (i := 98) (by decide +kernel) rfl
theorem qn_100 : (Jvm.Cond.fieldLinkNest "NoteSheet" (77 : Nat) "NoteSheet$Cell" "input" "Z" "NoteSheet") ∈ lw_n := in_n1 (i := 100) (by decide +kernel) rfl
theorem qn_101 : (Jvm.Cond.fieldLinkNest "NoteSheet" (114 : Nat) "NoteSheet$Cell" "working" "Z" "NoteSheet") ∈ lw_n := in_n1 (i := 101) (by decide +kernel) rfl
theorem qn_102 : (Jvm.Cond.fieldLinkNest "NoteSheet" (108 : Nat) "NoteSheet$Cell" "value" "I" "NoteSheet") ∈ lw_n := in_n1 (i := 102) (by decide +kernel) rfl
theorem qn_104 : (Jvm.Cond.fieldLinkNest "NoteSheet" (95 : Nat) "NoteSheet$Cell" "durability" "I" "NoteSheet") ∈ lw_n := in_n1 (i := 104) (by decide +kernel) rfl
theorem qn_106 : (Jvm.Cond.fieldLinkNest "NoteSheet" (111 : Nat) "NoteSheet$Cell" "since" "I" "NoteSheet") ∈ lw_n := in_n1 (i := 106) (by decide +kernel) rfl
theorem qn_107 : (Jvm.Cond.fieldLinkNest "NoteSheet" (105 : Nat) "NoteSheet$Cell" "formulaSince" "I" "NoteSheet") ∈ lw_n := in_n1 (i := 107) (by decide +kernel) rfl
theorem qn_108 : (Jvm.Cond.fieldLinkNest "NoteSheet" (81 : Nat) "NoteSheet$Cell" "formula" "LNoteSheet$Formula;" "NoteSheet") ∈ lw_n := in_n1 (i := 108) (by decide +kernel) rfl
theorem qn_110 : (Jvm.Cond.fieldLinkNest "NoteSheet" (101 : Nat) "NoteSheet$Cell" "note" "LNoteSheet$Note;" "NoteSheet") ∈ lw_n := in_n1 (i := 110) (by decide +kernel) rfl
theorem qn_111 : (Jvm.Cond.fieldLinkNest "NoteSheet" (160 : Nat) "NoteSheet$Cell" "worked" "I" "NoteSheet") ∈ lw_n := in_n1 (i := 111) (by decide +kernel) rfl
theorem qn_112 : (Jvm.Cond.fieldLinkNest "NoteSheet" (131 : Nat) "NoteSheet$Cell" "confirmed" "I" "NoteSheet") ∈ lw_n := in_n1 (i := 112) (by decide +kernel) rfl
theorem qn_113 : (Jvm.Cond.fieldLinkNest "NoteSheet" (123 : Nat) "NoteSheet$Cell" "passed" "I" "NoteSheet") ∈ lw_n := in_n1 (i := 113) (by decide +kernel) rfl
theorem qn_299 : (Jvm.Cond.castable "[B" "java/lang/Cloneable") ∈ lw_n := in_n1 (i := 299) (by decide +kernel) rfl
theorem qn_515 : (Jvm.Cond.fieldLinkNest "NoteSheet" (85 : Nat) "NoteSheet$Formula" "text" "Ljava/lang/String;" "NoteSheet") ∈ lw_n := in_n1 (i := 515) (by decide +kernel) rfl
theorem qn_517 : (Jvm.Cond.fieldLinkNest "NoteSheet" (190 : Nat) "NoteSheet$Formula" "ops" "[LNoteSheet$Op;" "NoteSheet") ∈ lw_n := in_n1 (i := 517) (by decide +kernel) rfl
theorem qn_519 : (Jvm.Cond.fieldLinkNest "NoteSheet" (194 : Nat) "NoteSheet$Formula" "numbers" "[I" "NoteSheet") ∈ lw_n := in_n1 (i := 519) (by decide +kernel) rfl
theorem qn_575 : (Jvm.Cond.methodLinkNest "NoteSheet" (164 : Nat) ({ cls := "NoteSheet$Note", name := "<init>", desc := "()V" } : Jvm.MethodName) "NoteSheet") ∈ lw_n := in_n1 (i := 575) (by decide +kernel) rfl
theorem qn_580 : (Jvm.Cond.fieldLinkNest "NoteSheet" (172 : Nat) "NoteSheet$Note" "has" "Z" "NoteSheet") ∈ lw_n := in_n1 (i := 580) (by decide +kernel) rfl
theorem qn_581 : (Jvm.Cond.fieldLinkNest "NoteSheet" (169 : Nat) "NoteSheet$Note" "value" "J" "NoteSheet") ∈ lw_n := in_n1 (i := 581) (by decide +kernel) rfl
theorem qn_582 : (Jvm.Cond.fieldLinkNest "NoteSheet" (117 : Nat) "NoteSheet$Note" "verified" "I" "NoteSheet") ∈ lw_n := in_n1 (i := 582) (by decide +kernel) rfl
theorem qn_583 : (Jvm.Cond.fieldLinkNest "NoteSheet$Cell" (24 : Nat) "NoteSheet$Note" "since" "I" "NoteSheet") ∈ lw_n := in_n1 (i := 583) (by decide +kernel) rfl
theorem qn_584 : (Jvm.Cond.fieldLinkNest "NoteSheet" (175 : Nat) "NoteSheet$Note" "since" "I" "NoteSheet") ∈ lw_n := in_n1 (i := 584) (by decide +kernel) rfl
theorem qn_585 : (Jvm.Cond.fieldLinkNest "NoteSheet$Cell" (30 : Nat) "NoteSheet$Note" "durability" "I" "NoteSheet") ∈ lw_n := in_n1 (i := 585) (by decide +kernel) rfl
theorem qn_586 : (Jvm.Cond.fieldLinkNest "NoteSheet" (122 : Nat) "NoteSheet$Note" "durability" "I" "NoteSheet") ∈ lw_n := in_n1 (i := 586) (by decide +kernel) rfl
theorem qn_587 : (Jvm.Cond.fieldLinkNest "NoteSheet" (179 : Nat) "NoteSheet$Note" "used" "I" "NoteSheet") ∈ lw_n := in_n1 (i := 587) (by decide +kernel) rfl
theorem qn_589 : (Jvm.Cond.fieldLinkNest "NoteSheet" (142 : Nat) "NoteSheet$Note" "reads" "[LNoteSheet$Cell;" "NoteSheet") ∈ lw_n := in_n1 (i := 589) (by decide +kernel) rfl
theorem qn_591 : (Jvm.Cond.fieldLinkNest "NoteSheet" (139 : Nat) "NoteSheet$Note" "count" "I" "NoteSheet") ∈ lw_n := in_n1 (i := 591) (by decide +kernel) rfl
