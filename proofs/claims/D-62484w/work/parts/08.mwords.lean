theorem nz_0 : vp_nar .boolean 0 = 0 := by decide +kernel
theorem nz_1 : vp_nar .boolean 1 = 1 := by decide +kernel
abbrev b_m_isCell : ByteArray := prog_8_method_2_code
def y_m_isCell : MethodName := ⟨"NoteSheetModel", "isCell", "(I)Z"⟩
theorem ok_m_isCell : cOK y_m_isCell 1 := ⟨by decide +kernel, by decide +kernel, by decide +kernel⟩
abbrev b_m_isLetter : ByteArray := prog_8_method_3_code
def y_m_isLetter : MethodName := ⟨"NoteSheetModel", "isLetter", "(I)Z"⟩
theorem ok_m_isLetter : cOK y_m_isLetter 1 := ⟨by decide +kernel, by decide +kernel, by decide +kernel⟩
abbrev b_m_isDigit : ByteArray := prog_8_method_4_code
def y_m_isDigit : MethodName := ⟨"NoteSheetModel", "isDigit", "(I)Z"⟩
theorem ok_m_isDigit : cOK y_m_isDigit 1 := ⟨by decide +kernel, by decide +kernel, by decide +kernel⟩
abbrev b_m_type : ByteArray := prog_8_method_5_code
def y_m_type : MethodName := ⟨"NoteSheetModel", "type", "(C)Z"⟩
theorem ok_m_type : cOK y_m_type 1 := ⟨by decide +kernel, by decide +kernel, by decide +kernel⟩
abbrev b_m_make : ByteArray := prog_8_method_6_code
def y_m_make : MethodName := ⟨"NoteSheetModel", "make", "(II)V"⟩
theorem ok_m_make : cOK y_m_make 2 := ⟨by decide +kernel, by decide +kernel, by decide +kernel⟩
abbrev b_m_put : ByteArray := prog_8_method_7_code
def y_m_put : MethodName := ⟨"NoteSheetModel", "put", "(II)V"⟩
theorem ok_m_put : cOK y_m_put 2 := ⟨by decide +kernel, by decide +kernel, by decide +kernel⟩
abbrev b_m_rank : ByteArray := prog_8_method_8_code
def y_m_rank : MethodName := ⟨"NoteSheetModel", "rank", "(I)I"⟩
theorem ok_m_rank : cOK y_m_rank 1 := ⟨by decide +kernel, by decide +kernel, by decide +kernel⟩
abbrev b_m_settle : ByteArray := prog_8_method_9_code
def y_m_settle : MethodName := ⟨"NoteSheetModel", "settle", "(I)V"⟩
theorem ok_m_settle : cOK y_m_settle 1 := ⟨by decide +kernel, by decide +kernel, by decide +kernel⟩
abbrev b_m_deepness : ByteArray := prog_8_method_10_code
def y_m_deepness : MethodName := ⟨"NoteSheetModel", "deepness", "()I"⟩
theorem ok_m_deepness : cOK y_m_deepness 0 := ⟨by decide +kernel, by decide +kernel, by decide +kernel⟩
abbrev b_m_begin : ByteArray := prog_8_method_11_code
def y_m_begin : MethodName := ⟨"NoteSheetModel", "begin", "(II)Z"⟩
theorem ok_m_begin : cOK y_m_begin 2 := ⟨by decide +kernel, by decide +kernel, by decide +kernel⟩
abbrev b_m_compared : ByteArray := prog_8_method_12_code
def y_m_compared : MethodName := ⟨"NoteSheetModel", "compared", "()Z"⟩
theorem ok_m_compared : cOK y_m_compared 0 := ⟨by decide +kernel, by decide +kernel, by decide +kernel⟩
abbrev b_m_inner : ByteArray := prog_8_method_13_code
def y_m_inner : MethodName := ⟨"NoteSheetModel", "inner", "()I"⟩
theorem ok_m_inner : cOK y_m_inner 0 := ⟨by decide +kernel, by decide +kernel, by decide +kernel⟩
abbrev b_m_close : ByteArray := prog_8_method_14_code
def y_m_close : MethodName := ⟨"NoteSheetModel", "close", "()V"⟩
theorem ok_m_close : cOK y_m_close 0 := ⟨by decide +kernel, by decide +kernel, by decide +kernel⟩
abbrev b_m_awaits : ByteArray := prog_8_method_15_code
def y_m_awaits : MethodName := ⟨"NoteSheetModel", "awaits", "()I"⟩
theorem ok_m_awaits : cOK y_m_awaits 0 := ⟨by decide +kernel, by decide +kernel, by decide +kernel⟩
abbrev b_m_goesOn : ByteArray := prog_8_method_16_code
def y_m_goesOn : MethodName := ⟨"NoteSheetModel", "goesOn", "(I)Z"⟩
theorem ok_m_goesOn : cOK y_m_goesOn 1 := ⟨by decide +kernel, by decide +kernel, by decide +kernel⟩
abbrev b_m_fault : ByteArray := prog_8_method_17_code
def y_m_fault : MethodName := ⟨"NoteSheetModel", "fault", "()I"⟩
theorem ok_m_fault : cOK y_m_fault 0 := ⟨by decide +kernel, by decide +kernel, by decide +kernel⟩
abbrev b_m_change : ByteArray := prog_8_method_19_code
def y_m_change : MethodName := ⟨"NoteSheetModel", "change", "(I)V"⟩
theorem ok_m_change : cOK y_m_change 1 := ⟨by decide +kernel, by decide +kernel, by decide +kernel⟩
abbrev b_m_define : ByteArray := prog_8_method_18_code
def y_m_define : MethodName := ⟨"NoteSheetModel", "define", "(I)I"⟩
theorem ok_m_define : cOK y_m_define 1 := ⟨by decide +kernel, by decide +kernel, by decide +kernel⟩
abbrev b_m_set : ByteArray := prog_8_method_20_code
def y_m_set : MethodName := ⟨"NoteSheetModel", "set", "(III)Z"⟩
theorem ok_m_set : cOK y_m_set 3 := ⟨by decide +kernel, by decide +kernel, by decide +kernel⟩
abbrev b_m_settled : ByteArray := prog_8_method_21_code
def y_m_settled : MethodName := ⟨"NoteSheetModel", "settled", "(I)Z"⟩
theorem ok_m_settled : cOK y_m_settled 1 := ⟨by decide +kernel, by decide +kernel, by decide +kernel⟩
abbrev b_m_durabilityOf : ByteArray := prog_8_method_22_code
def y_m_durabilityOf : MethodName := ⟨"NoteSheetModel", "durabilityOf", "(I)I"⟩
theorem ok_m_durabilityOf : cOK y_m_durabilityOf 1 := ⟨by decide +kernel, by decide +kernel, by decide +kernel⟩
abbrev b_m_sinceOf : ByteArray := prog_8_method_23_code
def y_m_sinceOf : MethodName := ⟨"NoteSheetModel", "sinceOf", "(I)I"⟩
theorem ok_m_sinceOf : cOK y_m_sinceOf 1 := ⟨by decide +kernel, by decide +kernel, by decide +kernel⟩
abbrev b_m_start : ByteArray := prog_8_method_24_code
def y_m_start : MethodName := ⟨"NoteSheetModel", "start", "(II)V"⟩
theorem ok_m_start : cOK y_m_start 2 := ⟨by decide +kernel, by decide +kernel, by decide +kernel⟩
abbrev b_m_counts : ByteArray := prog_8_method_25_code
def y_m_counts : MethodName := ⟨"NoteSheetModel", "counts", "(II)V"⟩
theorem ok_m_counts : cOK y_m_counts 2 := ⟨by decide +kernel, by decide +kernel, by decide +kernel⟩
abbrev b_m_finish : ByteArray := prog_8_method_26_code
def y_m_finish : MethodName := ⟨"NoteSheetModel", "finish", "()V"⟩
theorem ok_m_finish : cOK y_m_finish 0 := ⟨by decide +kernel, by decide +kernel, by decide +kernel⟩
abbrev b_m_use : ByteArray := prog_8_method_27_code
def y_m_use : MethodName := ⟨"NoteSheetModel", "use", "(I)V"⟩
theorem ok_m_use : cOK y_m_use 1 := ⟨by decide +kernel, by decide +kernel, by decide +kernel⟩
abbrev b_m_enter : ByteArray := prog_8_method_29_code
def y_m_enter : MethodName := ⟨"NoteSheetModel", "enter", "(II)V"⟩
theorem ok_m_enter : cOK y_m_enter 2 := ⟨by decide +kernel, by decide +kernel, by decide +kernel⟩
abbrev b_m_lookThrough : ByteArray := prog_8_method_30_code
def y_m_lookThrough : MethodName := ⟨"NoteSheetModel", "lookThrough", "(II)V"⟩
theorem ok_m_lookThrough : cOK y_m_lookThrough 2 := ⟨by decide +kernel, by decide +kernel, by decide +kernel⟩
abbrev b_m_worked : ByteArray := prog_8_method_31_code
def y_m_worked : MethodName := ⟨"NoteSheetModel", "worked", "(IIJ)V"⟩
theorem ok_m_worked : cOK y_m_worked 3 := ⟨by decide +kernel, by decide +kernel, by decide +kernel⟩
abbrev b_m_push : ByteArray := prog_8_method_32_code
def y_m_push : MethodName := ⟨"NoteSheetModel", "push", "(IJ)V"⟩
theorem ok_m_push : cOK y_m_push 2 := ⟨by decide +kernel, by decide +kernel, by decide +kernel⟩
abbrev b_m_look : ByteArray := prog_8_method_36_code
def y_m_look : MethodName := ⟨"NoteSheetModel", "look", "(III)V"⟩
theorem ok_m_look : cOK y_m_look 3 := ⟨by decide +kernel, by decide +kernel, by decide +kernel⟩
abbrev b_m_pop : ByteArray := prog_8_method_33_code
def y_m_pop : MethodName := ⟨"NoteSheetModel", "pop", "(I)J"⟩
theorem ok_m_pop : cOK y_m_pop 1 := ⟨by decide +kernel, by decide +kernel, by decide +kernel⟩
abbrev b_m_combine : ByteArray := prog_8_method_35_code
def y_m_combine : MethodName := ⟨"NoteSheetModel", "combine", "(II)V"⟩
theorem ok_m_combine : cOK y_m_combine 2 := ⟨by decide +kernel, by decide +kernel, by decide +kernel⟩
abbrev b_m_advance : ByteArray := prog_8_method_34_code
def y_m_advance : MethodName := ⟨"NoteSheetModel", "advance", "(II)V"⟩
theorem ok_m_advance : cOK y_m_advance 2 := ⟨by decide +kernel, by decide +kernel, by decide +kernel⟩
abbrev b_m_runAll : ByteArray := prog_8_method_28_code
def y_m_runAll : MethodName := ⟨"NoteSheetModel", "runAll", "()V"⟩
theorem ok_m_runAll : cOK y_m_runAll 0 := ⟨by decide +kernel, by decide +kernel, by decide +kernel⟩
abbrev b_m_values : ByteArray := prog_8_method_37_code
def y_m_values : MethodName := ⟨"NoteSheetModel", "values", "()I"⟩
theorem ok_m_values : cOK y_m_values 0 := ⟨by decide +kernel, by decide +kernel, by decide +kernel⟩
abbrev b_m_ask : ByteArray := prog_8_method_38_code
def y_m_ask : MethodName := ⟨"NoteSheetModel", "ask", "(I)J"⟩
theorem ok_m_ask : cOK y_m_ask 1 := ⟨by decide +kernel, by decide +kernel, by decide +kernel⟩
abbrev b_m_revision : ByteArray := prog_8_method_39_code
def y_m_revision : MethodName := ⟨"NoteSheetModel", "revision", "()I"⟩
theorem ok_m_revision : cOK y_m_revision 0 := ⟨by decide +kernel, by decide +kernel, by decide +kernel⟩
abbrev b_m_changed : ByteArray := prog_8_method_40_code
def y_m_changed : MethodName := ⟨"NoteSheetModel", "changed", "(I)I"⟩
theorem ok_m_changed : cOK y_m_changed 1 := ⟨by decide +kernel, by decide +kernel, by decide +kernel⟩
abbrev b_m_note : ByteArray := prog_8_method_41_code
def y_m_note : MethodName := ⟨"NoteSheetModel", "note", "(II)I"⟩
theorem ok_m_note : cOK y_m_note 2 := ⟨by decide +kernel, by decide +kernel, by decide +kernel⟩
abbrev b_m_read : ByteArray := prog_8_method_42_code
def y_m_read : MethodName := ⟨"NoteSheetModel", "read", "(II)I"⟩
theorem ok_m_read : cOK y_m_read 2 := ⟨by decide +kernel, by decide +kernel, by decide +kernel⟩
abbrev b_m_count : ByteArray := prog_8_method_43_code
def y_m_count : MethodName := ⟨"NoteSheetModel", "count", "(I)I"⟩
theorem ok_m_count : cOK y_m_count 1 := ⟨by decide +kernel, by decide +kernel, by decide +kernel⟩
theorem q_8 : (Jvm.Cond.initialized "NoteSheetModel") ∈ lw_g := in_t1 (i := 8) (by decide +kernel) rfl
theorem q_673 : (Jvm.Cond.fieldLink "NoteSheetModel" (124 : Nat) "NoteSheetModel" "most" "I") ∈ lw_g := in_t1 (i := 673) (by decide +kernel) rfl
theorem q_674 : (Jvm.Cond.fieldLink "NoteSheetModel" (7 : Nat) "NoteSheetModel" "pad" "[I") ∈ lw_g := in_t1 (i := 674) (by decide +kernel) rfl
theorem q_675 : (Jvm.Cond.fieldLink "NoteSheetModel" (134 : Nat) "NoteSheetModel" "length" "I") ∈ lw_g := in_t1 (i := 675) (by decide +kernel) rfl
theorem q_676 : (Jvm.Cond.fieldLink "NoteSheetModel" (13 : Nat) "NoteSheetModel" "revision" "I") ∈ lw_g := in_t1 (i := 676) (by decide +kernel) rfl
theorem q_677 : (Jvm.Cond.fieldLink "NoteSheetModel" (17 : Nat) "NoteSheetModel" "changes" "[I") ∈ lw_g := in_t1 (i := 677) (by decide +kernel) rfl
theorem q_678 : (Jvm.Cond.fieldLink "NoteSheetModel" (20 : Nat) "NoteSheetModel" "formula" "[Z") ∈ lw_g := in_t1 (i := 678) (by decide +kernel) rfl
theorem q_679 : (Jvm.Cond.fieldLink "NoteSheetModel" (24 : Nat) "NoteSheetModel" "text" "[I") ∈ lw_g := in_t1 (i := 679) (by decide +kernel) rfl
theorem q_680 : (Jvm.Cond.fieldLink "NoteSheetModel" (27 : Nat) "NoteSheetModel" "size" "[I") ∈ lw_g := in_t1 (i := 680) (by decide +kernel) rfl
theorem q_681 : (Jvm.Cond.fieldLink "NoteSheetModel" (30 : Nat) "NoteSheetModel" "steps" "[I") ∈ lw_g := in_t1 (i := 681) (by decide +kernel) rfl
theorem q_682 : (Jvm.Cond.fieldLink "NoteSheetModel" (33 : Nat) "NoteSheetModel" "step" "[I") ∈ lw_g := in_t1 (i := 682) (by decide +kernel) rfl
theorem q_683 : (Jvm.Cond.fieldLink "NoteSheetModel" (36 : Nat) "NoteSheetModel" "with" "[I") ∈ lw_g := in_t1 (i := 683) (by decide +kernel) rfl
theorem q_684 : (Jvm.Cond.fieldLink "NoteSheetModel" (39 : Nat) "NoteSheetModel" "altered" "[I") ∈ lw_g := in_t1 (i := 684) (by decide +kernel) rfl
theorem q_685 : (Jvm.Cond.fieldLink "NoteSheetModel" (42 : Nat) "NoteSheetModel" "number" "[I") ∈ lw_g := in_t1 (i := 685) (by decide +kernel) rfl
theorem q_686 : (Jvm.Cond.fieldLink "NoteSheetModel" (45 : Nat) "NoteSheetModel" "durable" "[I") ∈ lw_g := in_t1 (i := 686) (by decide +kernel) rfl
theorem q_687 : (Jvm.Cond.fieldLink "NoteSheetModel" (48 : Nat) "NoteSheetModel" "born" "[I") ∈ lw_g := in_t1 (i := 687) (by decide +kernel) rfl
theorem q_688 : (Jvm.Cond.fieldLink "NoteSheetModel" (51 : Nat) "NoteSheetModel" "noted" "[Z") ∈ lw_g := in_t1 (i := 688) (by decide +kernel) rfl
theorem q_689 : (Jvm.Cond.fieldLink "NoteSheetModel" (54 : Nat) "NoteSheetModel" "valued" "[Z") ∈ lw_g := in_t1 (i := 689) (by decide +kernel) rfl
theorem q_690 : (Jvm.Cond.fieldLink "NoteSheetModel" (57 : Nat) "NoteSheetModel" "value" "[J") ∈ lw_g := in_t1 (i := 690) (by decide +kernel) rfl
theorem q_691 : (Jvm.Cond.fieldLink "NoteSheetModel" (61 : Nat) "NoteSheetModel" "verified" "[I") ∈ lw_g := in_t1 (i := 691) (by decide +kernel) rfl
theorem q_692 : (Jvm.Cond.fieldLink "NoteSheetModel" (64 : Nat) "NoteSheetModel" "since" "[I") ∈ lw_g := in_t1 (i := 692) (by decide +kernel) rfl
theorem q_693 : (Jvm.Cond.fieldLink "NoteSheetModel" (67 : Nat) "NoteSheetModel" "noteDurable" "[I") ∈ lw_g := in_t1 (i := 693) (by decide +kernel) rfl
theorem q_694 : (Jvm.Cond.fieldLink "NoteSheetModel" (70 : Nat) "NoteSheetModel" "reads" "[I") ∈ lw_g := in_t1 (i := 694) (by decide +kernel) rfl
theorem q_695 : (Jvm.Cond.fieldLink "NoteSheetModel" (73 : Nat) "NoteSheetModel" "readCell" "[I") ∈ lw_g := in_t1 (i := 695) (by decide +kernel) rfl
theorem q_696 : (Jvm.Cond.fieldLink "NoteSheetModel" (76 : Nat) "NoteSheetModel" "used" "[I") ∈ lw_g := in_t1 (i := 696) (by decide +kernel) rfl
theorem q_697 : (Jvm.Cond.fieldLink "NoteSheetModel" (194 : Nat) "NoteSheetModel" "clock" "I") ∈ lw_g := in_t1 (i := 697) (by decide +kernel) rfl
theorem q_698 : (Jvm.Cond.fieldLink "NoteSheetModel" (79 : Nat) "NoteSheetModel" "often" "[I") ∈ lw_g := in_t1 (i := 698) (by decide +kernel) rfl
theorem q_699 : (Jvm.Cond.fieldLink "NoteSheetModel" (82 : Nat) "NoteSheetModel" "lately" "[I") ∈ lw_g := in_t1 (i := 699) (by decide +kernel) rfl
theorem q_700 : (Jvm.Cond.fieldLink "NoteSheetModel" (191 : Nat) "NoteSheetModel" "opened" "I") ∈ lw_g := in_t1 (i := 700) (by decide +kernel) rfl
theorem q_701 : (Jvm.Cond.fieldLink "NoteSheetModel" (85 : Nat) "NoteSheetModel" "open" "[I") ∈ lw_g := in_t1 (i := 701) (by decide +kernel) rfl
theorem q_702 : (Jvm.Cond.fieldLink "NoteSheetModel" (88 : Nat) "NoteSheetModel" "mode" "[I") ∈ lw_g := in_t1 (i := 702) (by decide +kernel) rfl
theorem q_703 : (Jvm.Cond.fieldLink "NoteSheetModel" (91 : Nat) "NoteSheetModel" "at" "[I") ∈ lw_g := in_t1 (i := 703) (by decide +kernel) rfl
theorem q_704 : (Jvm.Cond.fieldLink "NoteSheetModel" (94 : Nat) "NoteSheetModel" "depth" "[I") ∈ lw_g := in_t1 (i := 704) (by decide +kernel) rfl
theorem q_705 : (Jvm.Cond.fieldLink "NoteSheetModel" (97 : Nat) "NoteSheetModel" "stack" "[J") ∈ lw_g := in_t1 (i := 705) (by decide +kernel) rfl
theorem q_706 : (Jvm.Cond.fieldLink "NoteSheetModel" (100 : Nat) "NoteSheetModel" "found" "[I") ∈ lw_g := in_t1 (i := 706) (by decide +kernel) rfl
theorem q_707 : (Jvm.Cond.fieldLink "NoteSheetModel" (103 : Nat) "NoteSheetModel" "foundCell" "[I") ∈ lw_g := in_t1 (i := 707) (by decide +kernel) rfl
theorem q_708 : (Jvm.Cond.fieldLink "NoteSheetModel" (106 : Nat) "NoteSheetModel" "atWork" "[Z") ∈ lw_g := in_t1 (i := 708) (by decide +kernel) rfl
theorem q_709 : (Jvm.Cond.fieldLink "NoteSheetModel" (109 : Nat) "NoteSheetModel" "ring" "[Z") ∈ lw_g := in_t1 (i := 709) (by decide +kernel) rfl
theorem q_710 : (Jvm.Cond.fieldLink "NoteSheetModel" (140 : Nat) "NoteSheetModel" "signs" "I") ∈ lw_g := in_t1 (i := 710) (by decide +kernel) rfl
theorem q_711 : (Jvm.Cond.fieldLink "NoteSheetModel" (112 : Nat) "NoteSheetModel" "sign" "[I") ∈ lw_g := in_t1 (i := 711) (by decide +kernel) rfl
theorem q_712 : (Jvm.Cond.fieldLink "NoteSheetModel" (115 : Nat) "NoteSheetModel" "mend" "[I") ∈ lw_g := in_t1 (i := 712) (by decide +kernel) rfl
theorem q_713 : (Jvm.Cond.fieldLink "NoteSheetModel" (137 : Nat) "NoteSheetModel" "made" "I") ∈ lw_g := in_t1 (i := 713) (by decide +kernel) rfl
theorem q_714 : (Jvm.Cond.fieldLink "NoteSheetModel" (118 : Nat) "NoteSheetModel" "newStep" "[I") ∈ lw_g := in_t1 (i := 714) (by decide +kernel) rfl
theorem q_715 : (Jvm.Cond.fieldLink "NoteSheetModel" (121 : Nat) "NoteSheetModel" "newWith" "[I") ∈ lw_g := in_t1 (i := 715) (by decide +kernel) rfl
theorem q_808 : (Jvm.Cond.methodLink "NoteSheetModel" (127 : Nat) ({ cls := "NoteSheetModel", name := "isLetter", desc := "(I)Z" } : Jvm.MethodName)) ∈ lw_g := in_t1 (i := 808) (by decide +kernel) rfl
theorem q_809 : (Jvm.Cond.static ({ cls := "NoteSheetModel", name := "isLetter", desc := "(I)Z" } : Jvm.MethodName)) ∈ lw_g := in_t1 (i := 809) (by decide +kernel) rfl
theorem q_810 : (Jvm.Cond.code ({ cls := "NoteSheetModel", name := "isLetter", desc := "(I)Z" } : Jvm.MethodName) prog_8_method_3_code (1 : Nat) (Option.some Jvm.ClassFile.FieldType.boolean)) ∈ lw_g := in_t1 (i := 810) (by decide +kernel) rfl
theorem q_811 : (Jvm.Cond.methodLink "NoteSheetModel" (131 : Nat) ({ cls := "NoteSheetModel", name := "isDigit", desc := "(I)Z" } : Jvm.MethodName)) ∈ lw_g := in_t1 (i := 811) (by decide +kernel) rfl
theorem q_812 : (Jvm.Cond.static ({ cls := "NoteSheetModel", name := "isDigit", desc := "(I)Z" } : Jvm.MethodName)) ∈ lw_g := in_t1 (i := 812) (by decide +kernel) rfl
theorem q_813 : (Jvm.Cond.code ({ cls := "NoteSheetModel", name := "isDigit", desc := "(I)Z" } : Jvm.MethodName) prog_8_method_4_code (1 : Nat) (Option.some Jvm.ClassFile.FieldType.boolean)) ∈ lw_g := in_t1 (i := 813) (by decide +kernel) rfl
theorem q_818 : (Jvm.Cond.methodLink "NoteSheetModel" (182 : Nat) ({ cls := "NoteSheetModel", name := "fault", desc := "()I" } : Jvm.MethodName)) ∈ lw_g := in_t1 (i := 818) (by decide +kernel) rfl
theorem q_820 : (Jvm.Cond.instanceMethod ({ cls := "NoteSheetModel", name := "fault", desc := "()I" } : Jvm.MethodName)) ∈ lw_g := in_t1 (i := 820) (by decide +kernel) rfl
theorem q_821 : (Jvm.Cond.code ({ cls := "NoteSheetModel", name := "fault", desc := "()I" } : Jvm.MethodName) prog_8_method_17_code (6 : Nat) (Option.some Jvm.ClassFile.FieldType.int)) ∈ lw_g := in_t1 (i := 821) (by decide +kernel) rfl
theorem q_822 : (Jvm.Cond.methodLink "NoteSheetModel" (175 : Nat) ({ cls := "NoteSheetModel", name := "begin", desc := "(II)Z" } : Jvm.MethodName)) ∈ lw_g := in_t1 (i := 822) (by decide +kernel) rfl
theorem q_824 : (Jvm.Cond.instanceMethod ({ cls := "NoteSheetModel", name := "begin", desc := "(II)Z" } : Jvm.MethodName)) ∈ lw_g := in_t1 (i := 824) (by decide +kernel) rfl
theorem q_825 : (Jvm.Cond.code ({ cls := "NoteSheetModel", name := "begin", desc := "(II)Z" } : Jvm.MethodName) prog_8_method_11_code (5 : Nat) (Option.some Jvm.ClassFile.FieldType.boolean)) ∈ lw_g := in_t1 (i := 825) (by decide +kernel) rfl
theorem q_826 : (Jvm.Cond.methodLink "NoteSheetModel" (147 : Nat) ({ cls := "NoteSheetModel", name := "make", desc := "(II)V" } : Jvm.MethodName)) ∈ lw_g := in_t1 (i := 826) (by decide +kernel) rfl
theorem q_828 : (Jvm.Cond.instanceMethod ({ cls := "NoteSheetModel", name := "make", desc := "(II)V" } : Jvm.MethodName)) ∈ lw_g := in_t1 (i := 828) (by decide +kernel) rfl
theorem q_829 : (Jvm.Cond.code ({ cls := "NoteSheetModel", name := "make", desc := "(II)V" } : Jvm.MethodName) prog_8_method_6_code (3 : Nat) (Option.none : Option Jvm.ClassFile.FieldType)) ∈ lw_g := in_t1 (i := 829) (by decide +kernel) rfl
theorem q_830 : (Jvm.Cond.methodLink "NoteSheetModel" (151 : Nat) ({ cls := "NoteSheetModel", name := "settle", desc := "(I)V" } : Jvm.MethodName)) ∈ lw_g := in_t1 (i := 830) (by decide +kernel) rfl
theorem q_832 : (Jvm.Cond.instanceMethod ({ cls := "NoteSheetModel", name := "settle", desc := "(I)V" } : Jvm.MethodName)) ∈ lw_g := in_t1 (i := 832) (by decide +kernel) rfl
theorem q_833 : (Jvm.Cond.code ({ cls := "NoteSheetModel", name := "settle", desc := "(I)V" } : Jvm.MethodName) prog_8_method_9_code (3 : Nat) (Option.none : Option Jvm.ClassFile.FieldType)) ∈ lw_g := in_t1 (i := 833) (by decide +kernel) rfl
theorem q_834 : (Jvm.Cond.methodLink "NoteSheetModel" (143 : Nat) ({ cls := "NoteSheetModel", name := "rank", desc := "(I)I" } : Jvm.MethodName)) ∈ lw_g := in_t1 (i := 834) (by decide +kernel) rfl
theorem q_835 : (Jvm.Cond.static ({ cls := "NoteSheetModel", name := "rank", desc := "(I)I" } : Jvm.MethodName)) ∈ lw_g := in_t1 (i := 835) (by decide +kernel) rfl
theorem q_836 : (Jvm.Cond.code ({ cls := "NoteSheetModel", name := "rank", desc := "(I)I" } : Jvm.MethodName) prog_8_method_8_code (1 : Nat) (Option.some Jvm.ClassFile.FieldType.int)) ∈ lw_g := in_t1 (i := 836) (by decide +kernel) rfl
theorem q_837 : (Jvm.Cond.methodLink "NoteSheetModel" (155 : Nat) ({ cls := "NoteSheetModel", name := "deepness", desc := "()I" } : Jvm.MethodName)) ∈ lw_g := in_t1 (i := 837) (by decide +kernel) rfl
theorem q_839 : (Jvm.Cond.instanceMethod ({ cls := "NoteSheetModel", name := "deepness", desc := "()I" } : Jvm.MethodName)) ∈ lw_g := in_t1 (i := 839) (by decide +kernel) rfl
theorem q_840 : (Jvm.Cond.code ({ cls := "NoteSheetModel", name := "deepness", desc := "()I" } : Jvm.MethodName) prog_8_method_10_code (3 : Nat) (Option.some Jvm.ClassFile.FieldType.int)) ∈ lw_g := in_t1 (i := 840) (by decide +kernel) rfl
theorem q_841 : (Jvm.Cond.methodLink "NoteSheetModel" (159 : Nat) ({ cls := "NoteSheetModel", name := "put", desc := "(II)V" } : Jvm.MethodName)) ∈ lw_g := in_t1 (i := 841) (by decide +kernel) rfl
theorem q_843 : (Jvm.Cond.instanceMethod ({ cls := "NoteSheetModel", name := "put", desc := "(II)V" } : Jvm.MethodName)) ∈ lw_g := in_t1 (i := 843) (by decide +kernel) rfl
theorem q_844 : (Jvm.Cond.code ({ cls := "NoteSheetModel", name := "put", desc := "(II)V" } : Jvm.MethodName) prog_8_method_7_code (3 : Nat) (Option.none : Option Jvm.ClassFile.FieldType)) ∈ lw_g := in_t1 (i := 844) (by decide +kernel) rfl
theorem q_845 : (Jvm.Cond.methodLink "NoteSheetModel" (179 : Nat) ({ cls := "NoteSheetModel", name := "goesOn", desc := "(I)Z" } : Jvm.MethodName)) ∈ lw_g := in_t1 (i := 845) (by decide +kernel) rfl
theorem q_847 : (Jvm.Cond.instanceMethod ({ cls := "NoteSheetModel", name := "goesOn", desc := "(I)Z" } : Jvm.MethodName)) ∈ lw_g := in_t1 (i := 847) (by decide +kernel) rfl
theorem q_848 : (Jvm.Cond.code ({ cls := "NoteSheetModel", name := "goesOn", desc := "(I)Z" } : Jvm.MethodName) prog_8_method_16_code (2 : Nat) (Option.some Jvm.ClassFile.FieldType.boolean)) ∈ lw_g := in_t1 (i := 848) (by decide +kernel) rfl
theorem q_849 : (Jvm.Cond.methodLink "NoteSheetModel" (165 : Nat) ({ cls := "NoteSheetModel", name := "compared", desc := "()Z" } : Jvm.MethodName)) ∈ lw_g := in_t1 (i := 849) (by decide +kernel) rfl
theorem q_851 : (Jvm.Cond.instanceMethod ({ cls := "NoteSheetModel", name := "compared", desc := "()Z" } : Jvm.MethodName)) ∈ lw_g := in_t1 (i := 851) (by decide +kernel) rfl
theorem q_852 : (Jvm.Cond.code ({ cls := "NoteSheetModel", name := "compared", desc := "()Z" } : Jvm.MethodName) prog_8_method_12_code (3 : Nat) (Option.some Jvm.ClassFile.FieldType.boolean)) ∈ lw_g := in_t1 (i := 852) (by decide +kernel) rfl
theorem q_853 : (Jvm.Cond.methodLink "NoteSheetModel" (169 : Nat) ({ cls := "NoteSheetModel", name := "awaits", desc := "()I" } : Jvm.MethodName)) ∈ lw_g := in_t1 (i := 853) (by decide +kernel) rfl
theorem q_855 : (Jvm.Cond.instanceMethod ({ cls := "NoteSheetModel", name := "awaits", desc := "()I" } : Jvm.MethodName)) ∈ lw_g := in_t1 (i := 855) (by decide +kernel) rfl
theorem q_856 : (Jvm.Cond.code ({ cls := "NoteSheetModel", name := "awaits", desc := "()I" } : Jvm.MethodName) prog_8_method_15_code (2 : Nat) (Option.some Jvm.ClassFile.FieldType.int)) ∈ lw_g := in_t1 (i := 856) (by decide +kernel) rfl
theorem q_857 : (Jvm.Cond.methodLink "NoteSheetModel" (162 : Nat) ({ cls := "NoteSheetModel", name := "inner", desc := "()I" } : Jvm.MethodName)) ∈ lw_g := in_t1 (i := 857) (by decide +kernel) rfl
theorem q_859 : (Jvm.Cond.instanceMethod ({ cls := "NoteSheetModel", name := "inner", desc := "()I" } : Jvm.MethodName)) ∈ lw_g := in_t1 (i := 859) (by decide +kernel) rfl
theorem q_860 : (Jvm.Cond.code ({ cls := "NoteSheetModel", name := "inner", desc := "()I" } : Jvm.MethodName) prog_8_method_13_code (2 : Nat) (Option.some Jvm.ClassFile.FieldType.int)) ∈ lw_g := in_t1 (i := 860) (by decide +kernel) rfl
theorem q_861 : (Jvm.Cond.methodLink "NoteSheetModel" (172 : Nat) ({ cls := "NoteSheetModel", name := "close", desc := "()V" } : Jvm.MethodName)) ∈ lw_g := in_t1 (i := 861) (by decide +kernel) rfl
theorem q_863 : (Jvm.Cond.instanceMethod ({ cls := "NoteSheetModel", name := "close", desc := "()V" } : Jvm.MethodName)) ∈ lw_g := in_t1 (i := 863) (by decide +kernel) rfl
theorem q_864 : (Jvm.Cond.code ({ cls := "NoteSheetModel", name := "close", desc := "()V" } : Jvm.MethodName) prog_8_method_14_code (1 : Nat) (Option.none : Option Jvm.ClassFile.FieldType)) ∈ lw_g := in_t1 (i := 864) (by decide +kernel) rfl
theorem q_865 : (Jvm.Cond.methodLink "NoteSheetModel" (185 : Nat) ({ cls := "NoteSheetModel", name := "isCell", desc := "(I)Z" } : Jvm.MethodName)) ∈ lw_g := in_t1 (i := 865) (by decide +kernel) rfl
theorem q_866 : (Jvm.Cond.static ({ cls := "NoteSheetModel", name := "isCell", desc := "(I)Z" } : Jvm.MethodName)) ∈ lw_g := in_t1 (i := 866) (by decide +kernel) rfl
theorem q_867 : (Jvm.Cond.code ({ cls := "NoteSheetModel", name := "isCell", desc := "(I)Z" } : Jvm.MethodName) prog_8_method_2_code (1 : Nat) (Option.some Jvm.ClassFile.FieldType.boolean)) ∈ lw_g := in_t1 (i := 867) (by decide +kernel) rfl
theorem q_868 : (Jvm.Cond.methodLink "NoteSheetModel" (188 : Nat) ({ cls := "NoteSheetModel", name := "change", desc := "(I)V" } : Jvm.MethodName)) ∈ lw_g := in_t1 (i := 868) (by decide +kernel) rfl
theorem q_870 : (Jvm.Cond.instanceMethod ({ cls := "NoteSheetModel", name := "change", desc := "(I)V" } : Jvm.MethodName)) ∈ lw_g := in_t1 (i := 870) (by decide +kernel) rfl
theorem q_871 : (Jvm.Cond.code ({ cls := "NoteSheetModel", name := "change", desc := "(I)V" } : Jvm.MethodName) prog_8_method_19_code (3 : Nat) (Option.none : Option Jvm.ClassFile.FieldType)) ∈ lw_g := in_t1 (i := 871) (by decide +kernel) rfl
theorem q_880 : (Jvm.Cond.constantLong "NoteSheetModel" (248 : Nat) (-1 : Int64)) ∈ lw_g := in_t1 (i := 880) (by decide +kernel) rfl
theorem q_881 : (Jvm.Cond.methodLink "NoteSheetModel" (219 : Nat) ({ cls := "NoteSheetModel", name := "settled", desc := "(I)Z" } : Jvm.MethodName)) ∈ lw_g := in_t1 (i := 881) (by decide +kernel) rfl
theorem q_883 : (Jvm.Cond.instanceMethod ({ cls := "NoteSheetModel", name := "settled", desc := "(I)Z" } : Jvm.MethodName)) ∈ lw_g := in_t1 (i := 883) (by decide +kernel) rfl
theorem q_884 : (Jvm.Cond.code ({ cls := "NoteSheetModel", name := "settled", desc := "(I)Z" } : Jvm.MethodName) prog_8_method_21_code (2 : Nat) (Option.some Jvm.ClassFile.FieldType.boolean)) ∈ lw_g := in_t1 (i := 884) (by decide +kernel) rfl
theorem q_885 : (Jvm.Cond.methodLink "NoteSheetModel" (222 : Nat) ({ cls := "NoteSheetModel", name := "start", desc := "(II)V" } : Jvm.MethodName)) ∈ lw_g := in_t1 (i := 885) (by decide +kernel) rfl
theorem q_887 : (Jvm.Cond.instanceMethod ({ cls := "NoteSheetModel", name := "start", desc := "(II)V" } : Jvm.MethodName)) ∈ lw_g := in_t1 (i := 887) (by decide +kernel) rfl
theorem q_888 : (Jvm.Cond.code ({ cls := "NoteSheetModel", name := "start", desc := "(II)V" } : Jvm.MethodName) prog_8_method_24_code (3 : Nat) (Option.none : Option Jvm.ClassFile.FieldType)) ∈ lw_g := in_t1 (i := 888) (by decide +kernel) rfl
theorem q_889 : (Jvm.Cond.methodLink "NoteSheetModel" (250 : Nat) ({ cls := "NoteSheetModel", name := "runAll", desc := "()V" } : Jvm.MethodName)) ∈ lw_g := in_t1 (i := 889) (by decide +kernel) rfl
theorem q_891 : (Jvm.Cond.instanceMethod ({ cls := "NoteSheetModel", name := "runAll", desc := "()V" } : Jvm.MethodName)) ∈ lw_g := in_t1 (i := 891) (by decide +kernel) rfl
theorem q_892 : (Jvm.Cond.code ({ cls := "NoteSheetModel", name := "runAll", desc := "()V" } : Jvm.MethodName) prog_8_method_28_code (2 : Nat) (Option.none : Option Jvm.ClassFile.FieldType)) ∈ lw_g := in_t1 (i := 892) (by decide +kernel) rfl
theorem q_893 : (Jvm.Cond.methodLink "NoteSheetModel" (197 : Nat) ({ cls := "NoteSheetModel", name := "enter", desc := "(II)V" } : Jvm.MethodName)) ∈ lw_g := in_t1 (i := 893) (by decide +kernel) rfl
theorem q_895 : (Jvm.Cond.instanceMethod ({ cls := "NoteSheetModel", name := "enter", desc := "(II)V" } : Jvm.MethodName)) ∈ lw_g := in_t1 (i := 895) (by decide +kernel) rfl
theorem q_896 : (Jvm.Cond.code ({ cls := "NoteSheetModel", name := "enter", desc := "(II)V" } : Jvm.MethodName) prog_8_method_29_code (3 : Nat) (Option.none : Option Jvm.ClassFile.FieldType)) ∈ lw_g := in_t1 (i := 896) (by decide +kernel) rfl
theorem q_897 : (Jvm.Cond.methodLink "NoteSheetModel" (210 : Nat) ({ cls := "NoteSheetModel", name := "counts", desc := "(II)V" } : Jvm.MethodName)) ∈ lw_g := in_t1 (i := 897) (by decide +kernel) rfl
theorem q_899 : (Jvm.Cond.instanceMethod ({ cls := "NoteSheetModel", name := "counts", desc := "(II)V" } : Jvm.MethodName)) ∈ lw_g := in_t1 (i := 899) (by decide +kernel) rfl
theorem q_900 : (Jvm.Cond.code ({ cls := "NoteSheetModel", name := "counts", desc := "(II)V" } : Jvm.MethodName) prog_8_method_25_code (3 : Nat) (Option.none : Option Jvm.ClassFile.FieldType)) ∈ lw_g := in_t1 (i := 900) (by decide +kernel) rfl
theorem q_901 : (Jvm.Cond.methodLink "NoteSheetModel" (213 : Nat) ({ cls := "NoteSheetModel", name := "finish", desc := "()V" } : Jvm.MethodName)) ∈ lw_g := in_t1 (i := 901) (by decide +kernel) rfl
theorem q_903 : (Jvm.Cond.instanceMethod ({ cls := "NoteSheetModel", name := "finish", desc := "()V" } : Jvm.MethodName)) ∈ lw_g := in_t1 (i := 903) (by decide +kernel) rfl
theorem q_904 : (Jvm.Cond.code ({ cls := "NoteSheetModel", name := "finish", desc := "()V" } : Jvm.MethodName) prog_8_method_26_code (1 : Nat) (Option.none : Option Jvm.ClassFile.FieldType)) ∈ lw_g := in_t1 (i := 904) (by decide +kernel) rfl
theorem q_905 : (Jvm.Cond.methodLink "NoteSheetModel" (200 : Nat) ({ cls := "NoteSheetModel", name := "lookThrough", desc := "(II)V" } : Jvm.MethodName)) ∈ lw_g := in_t1 (i := 905) (by decide +kernel) rfl
theorem q_907 : (Jvm.Cond.instanceMethod ({ cls := "NoteSheetModel", name := "lookThrough", desc := "(II)V" } : Jvm.MethodName)) ∈ lw_g := in_t1 (i := 907) (by decide +kernel) rfl
theorem q_908 : (Jvm.Cond.code ({ cls := "NoteSheetModel", name := "lookThrough", desc := "(II)V" } : Jvm.MethodName) prog_8_method_30_code (5 : Nat) (Option.none : Option Jvm.ClassFile.FieldType)) ∈ lw_g := in_t1 (i := 908) (by decide +kernel) rfl
theorem q_909 : (Jvm.Cond.methodLink "NoteSheetModel" (216 : Nat) ({ cls := "NoteSheetModel", name := "durabilityOf", desc := "(I)I" } : Jvm.MethodName)) ∈ lw_g := in_t1 (i := 909) (by decide +kernel) rfl
theorem q_911 : (Jvm.Cond.instanceMethod ({ cls := "NoteSheetModel", name := "durabilityOf", desc := "(I)I" } : Jvm.MethodName)) ∈ lw_g := in_t1 (i := 911) (by decide +kernel) rfl
theorem q_912 : (Jvm.Cond.code ({ cls := "NoteSheetModel", name := "durabilityOf", desc := "(I)I" } : Jvm.MethodName) prog_8_method_22_code (2 : Nat) (Option.some Jvm.ClassFile.FieldType.int)) ∈ lw_g := in_t1 (i := 912) (by decide +kernel) rfl
theorem q_913 : (Jvm.Cond.methodLink "NoteSheetModel" (225 : Nat) ({ cls := "NoteSheetModel", name := "sinceOf", desc := "(I)I" } : Jvm.MethodName)) ∈ lw_g := in_t1 (i := 913) (by decide +kernel) rfl
theorem q_915 : (Jvm.Cond.instanceMethod ({ cls := "NoteSheetModel", name := "sinceOf", desc := "(I)I" } : Jvm.MethodName)) ∈ lw_g := in_t1 (i := 915) (by decide +kernel) rfl
theorem q_916 : (Jvm.Cond.code ({ cls := "NoteSheetModel", name := "sinceOf", desc := "(I)I" } : Jvm.MethodName) prog_8_method_23_code (2 : Nat) (Option.some Jvm.ClassFile.FieldType.int)) ∈ lw_g := in_t1 (i := 916) (by decide +kernel) rfl
theorem q_917 : (Jvm.Cond.methodLink "NoteSheetModel" (203 : Nat) ({ cls := "NoteSheetModel", name := "worked", desc := "(IIJ)V" } : Jvm.MethodName)) ∈ lw_g := in_t1 (i := 917) (by decide +kernel) rfl
theorem q_919 : (Jvm.Cond.instanceMethod ({ cls := "NoteSheetModel", name := "worked", desc := "(IIJ)V" } : Jvm.MethodName)) ∈ lw_g := in_t1 (i := 919) (by decide +kernel) rfl
theorem q_920 : (Jvm.Cond.code ({ cls := "NoteSheetModel", name := "worked", desc := "(IIJ)V" } : Jvm.MethodName) prog_8_method_31_code (8 : Nat) (Option.none : Option Jvm.ClassFile.FieldType)) ∈ lw_g := in_t1 (i := 920) (by decide +kernel) rfl
theorem q_921 : (Jvm.Cond.methodLink "NoteSheetModel" (228 : Nat) ({ cls := "NoteSheetModel", name := "use", desc := "(I)V" } : Jvm.MethodName)) ∈ lw_g := in_t1 (i := 921) (by decide +kernel) rfl
theorem q_923 : (Jvm.Cond.instanceMethod ({ cls := "NoteSheetModel", name := "use", desc := "(I)V" } : Jvm.MethodName)) ∈ lw_g := in_t1 (i := 923) (by decide +kernel) rfl
theorem q_924 : (Jvm.Cond.code ({ cls := "NoteSheetModel", name := "use", desc := "(I)V" } : Jvm.MethodName) prog_8_method_27_code (2 : Nat) (Option.none : Option Jvm.ClassFile.FieldType)) ∈ lw_g := in_t1 (i := 924) (by decide +kernel) rfl
theorem q_925 : (Jvm.Cond.methodLink "NoteSheetModel" (207 : Nat) ({ cls := "NoteSheetModel", name := "advance", desc := "(II)V" } : Jvm.MethodName)) ∈ lw_g := in_t1 (i := 925) (by decide +kernel) rfl
theorem q_927 : (Jvm.Cond.instanceMethod ({ cls := "NoteSheetModel", name := "advance", desc := "(II)V" } : Jvm.MethodName)) ∈ lw_g := in_t1 (i := 927) (by decide +kernel) rfl
theorem q_928 : (Jvm.Cond.code ({ cls := "NoteSheetModel", name := "advance", desc := "(II)V" } : Jvm.MethodName) prog_8_method_34_code (6 : Nat) (Option.none : Option Jvm.ClassFile.FieldType)) ∈ lw_g := in_t1 (i := 928) (by decide +kernel) rfl
theorem q_929 : (Jvm.Cond.methodLink "NoteSheetModel" (231 : Nat) ({ cls := "NoteSheetModel", name := "look", desc := "(III)V" } : Jvm.MethodName)) ∈ lw_g := in_t1 (i := 929) (by decide +kernel) rfl
theorem q_931 : (Jvm.Cond.instanceMethod ({ cls := "NoteSheetModel", name := "look", desc := "(III)V" } : Jvm.MethodName)) ∈ lw_g := in_t1 (i := 931) (by decide +kernel) rfl
theorem q_932 : (Jvm.Cond.code ({ cls := "NoteSheetModel", name := "look", desc := "(III)V" } : Jvm.MethodName) prog_8_method_36_code (7 : Nat) (Option.none : Option Jvm.ClassFile.FieldType)) ∈ lw_g := in_t1 (i := 932) (by decide +kernel) rfl
theorem q_933 : (Jvm.Cond.constantLong "NoteSheetModel" (246 : Nat) (1099511627776 : Int64)) ∈ lw_g := in_t1 (i := 933) (by decide +kernel) rfl
theorem q_934 : (Jvm.Cond.methodLink "NoteSheetModel" (235 : Nat) ({ cls := "NoteSheetModel", name := "push", desc := "(IJ)V" } : Jvm.MethodName)) ∈ lw_g := in_t1 (i := 934) (by decide +kernel) rfl
theorem q_936 : (Jvm.Cond.instanceMethod ({ cls := "NoteSheetModel", name := "push", desc := "(IJ)V" } : Jvm.MethodName)) ∈ lw_g := in_t1 (i := 936) (by decide +kernel) rfl
theorem q_937 : (Jvm.Cond.code ({ cls := "NoteSheetModel", name := "push", desc := "(IJ)V" } : Jvm.MethodName) prog_8_method_32_code (4 : Nat) (Option.none : Option Jvm.ClassFile.FieldType)) ∈ lw_g := in_t1 (i := 937) (by decide +kernel) rfl
theorem q_938 : (Jvm.Cond.methodLink "NoteSheetModel" (239 : Nat) ({ cls := "NoteSheetModel", name := "pop", desc := "(I)J" } : Jvm.MethodName)) ∈ lw_g := in_t1 (i := 938) (by decide +kernel) rfl
theorem q_940 : (Jvm.Cond.instanceMethod ({ cls := "NoteSheetModel", name := "pop", desc := "(I)J" } : Jvm.MethodName)) ∈ lw_g := in_t1 (i := 940) (by decide +kernel) rfl
theorem q_941 : (Jvm.Cond.code ({ cls := "NoteSheetModel", name := "pop", desc := "(I)J" } : Jvm.MethodName) prog_8_method_33_code (2 : Nat) (Option.some Jvm.ClassFile.FieldType.long)) ∈ lw_g := in_t1 (i := 941) (by decide +kernel) rfl
theorem q_942 : (Jvm.Cond.methodLink "NoteSheetModel" (243 : Nat) ({ cls := "NoteSheetModel", name := "combine", desc := "(II)V" } : Jvm.MethodName)) ∈ lw_g := in_t1 (i := 942) (by decide +kernel) rfl
theorem q_944 : (Jvm.Cond.instanceMethod ({ cls := "NoteSheetModel", name := "combine", desc := "(II)V" } : Jvm.MethodName)) ∈ lw_g := in_t1 (i := 944) (by decide +kernel) rfl
theorem q_945 : (Jvm.Cond.code ({ cls := "NoteSheetModel", name := "combine", desc := "(II)V" } : Jvm.MethodName) prog_8_method_35_code (5 : Nat) (Option.none : Option Jvm.ClassFile.FieldType)) ∈ lw_g := in_t1 (i := 945) (by decide +kernel) rfl
theorem q_946 : (Jvm.Cond.methodLink "NoteSheetModel" (253 : Nat) ({ cls := "NoteSheetModel", name := "values", desc := "()I" } : Jvm.MethodName)) ∈ lw_g := in_t1 (i := 946) (by decide +kernel) rfl
theorem q_948 : (Jvm.Cond.instanceMethod ({ cls := "NoteSheetModel", name := "values", desc := "()I" } : Jvm.MethodName)) ∈ lw_g := in_t1 (i := 948) (by decide +kernel) rfl
theorem q_949 : (Jvm.Cond.code ({ cls := "NoteSheetModel", name := "values", desc := "()I" } : Jvm.MethodName) prog_8_method_37_code (3 : Nat) (Option.some Jvm.ClassFile.FieldType.int)) ∈ lw_g := in_t1 (i := 949) (by decide +kernel) rfl
theorem q_p21 : Cond.selects "NoteSheetModel" ⟨"NoteSheetModel", "fault", "()I"⟩ ⟨"NoteSheetModel", "fault", "()I"⟩ ∈ lw_g := in_pr (q := (⟨"NoteSheetModel", "fault", "()I"⟩, 43)) (i := 21) (by decide +kernel)
theorem q_p22 : Cond.selects "NoteSheetModel" ⟨"NoteSheetModel", "begin", "(II)Z"⟩ ⟨"NoteSheetModel", "begin", "(II)Z"⟩ ∈ lw_g := in_pr (q := (⟨"NoteSheetModel", "begin", "(II)Z"⟩, 43)) (i := 22) (by decide +kernel)
theorem q_p23 : Cond.selects "NoteSheetModel" ⟨"NoteSheetModel", "make", "(II)V"⟩ ⟨"NoteSheetModel", "make", "(II)V"⟩ ∈ lw_g := in_pr (q := (⟨"NoteSheetModel", "make", "(II)V"⟩, 43)) (i := 23) (by decide +kernel)
theorem q_p24 : Cond.selects "NoteSheetModel" ⟨"NoteSheetModel", "settle", "(I)V"⟩ ⟨"NoteSheetModel", "settle", "(I)V"⟩ ∈ lw_g := in_pr (q := (⟨"NoteSheetModel", "settle", "(I)V"⟩, 43)) (i := 24) (by decide +kernel)
theorem q_p25 : Cond.selects "NoteSheetModel" ⟨"NoteSheetModel", "deepness", "()I"⟩ ⟨"NoteSheetModel", "deepness", "()I"⟩ ∈ lw_g := in_pr (q := (⟨"NoteSheetModel", "deepness", "()I"⟩, 43)) (i := 25) (by decide +kernel)
theorem q_p26 : Cond.selects "NoteSheetModel" ⟨"NoteSheetModel", "put", "(II)V"⟩ ⟨"NoteSheetModel", "put", "(II)V"⟩ ∈ lw_g := in_pr (q := (⟨"NoteSheetModel", "put", "(II)V"⟩, 43)) (i := 26) (by decide +kernel)
theorem q_p27 : Cond.selects "NoteSheetModel" ⟨"NoteSheetModel", "goesOn", "(I)Z"⟩ ⟨"NoteSheetModel", "goesOn", "(I)Z"⟩ ∈ lw_g := in_pr (q := (⟨"NoteSheetModel", "goesOn", "(I)Z"⟩, 43)) (i := 27) (by decide +kernel)
theorem q_p28 : Cond.selects "NoteSheetModel" ⟨"NoteSheetModel", "compared", "()Z"⟩ ⟨"NoteSheetModel", "compared", "()Z"⟩ ∈ lw_g := in_pr (q := (⟨"NoteSheetModel", "compared", "()Z"⟩, 43)) (i := 28) (by decide +kernel)
theorem q_p29 : Cond.selects "NoteSheetModel" ⟨"NoteSheetModel", "awaits", "()I"⟩ ⟨"NoteSheetModel", "awaits", "()I"⟩ ∈ lw_g := in_pr (q := (⟨"NoteSheetModel", "awaits", "()I"⟩, 43)) (i := 29) (by decide +kernel)
theorem q_p30 : Cond.selects "NoteSheetModel" ⟨"NoteSheetModel", "inner", "()I"⟩ ⟨"NoteSheetModel", "inner", "()I"⟩ ∈ lw_g := in_pr (q := (⟨"NoteSheetModel", "inner", "()I"⟩, 43)) (i := 30) (by decide +kernel)
theorem q_p31 : Cond.selects "NoteSheetModel" ⟨"NoteSheetModel", "close", "()V"⟩ ⟨"NoteSheetModel", "close", "()V"⟩ ∈ lw_g := in_pr (q := (⟨"NoteSheetModel", "close", "()V"⟩, 43)) (i := 31) (by decide +kernel)
theorem q_p32 : Cond.selects "NoteSheetModel" ⟨"NoteSheetModel", "change", "(I)V"⟩ ⟨"NoteSheetModel", "change", "(I)V"⟩ ∈ lw_g := in_pr (q := (⟨"NoteSheetModel", "change", "(I)V"⟩, 43)) (i := 32) (by decide +kernel)
theorem q_p33 : Cond.selects "NoteSheetModel" ⟨"NoteSheetModel", "settled", "(I)Z"⟩ ⟨"NoteSheetModel", "settled", "(I)Z"⟩ ∈ lw_g := in_pr (q := (⟨"NoteSheetModel", "settled", "(I)Z"⟩, 43)) (i := 33) (by decide +kernel)
theorem q_p34 : Cond.selects "NoteSheetModel" ⟨"NoteSheetModel", "start", "(II)V"⟩ ⟨"NoteSheetModel", "start", "(II)V"⟩ ∈ lw_g := in_pr (q := (⟨"NoteSheetModel", "start", "(II)V"⟩, 43)) (i := 34) (by decide +kernel)
theorem q_p35 : Cond.selects "NoteSheetModel" ⟨"NoteSheetModel", "runAll", "()V"⟩ ⟨"NoteSheetModel", "runAll", "()V"⟩ ∈ lw_g := in_pr (q := (⟨"NoteSheetModel", "runAll", "()V"⟩, 43)) (i := 35) (by decide +kernel)
theorem q_p36 : Cond.selects "NoteSheetModel" ⟨"NoteSheetModel", "enter", "(II)V"⟩ ⟨"NoteSheetModel", "enter", "(II)V"⟩ ∈ lw_g := in_pr (q := (⟨"NoteSheetModel", "enter", "(II)V"⟩, 43)) (i := 36) (by decide +kernel)
theorem q_p37 : Cond.selects "NoteSheetModel" ⟨"NoteSheetModel", "counts", "(II)V"⟩ ⟨"NoteSheetModel", "counts", "(II)V"⟩ ∈ lw_g := in_pr (q := (⟨"NoteSheetModel", "counts", "(II)V"⟩, 43)) (i := 37) (by decide +kernel)
theorem q_p38 : Cond.selects "NoteSheetModel" ⟨"NoteSheetModel", "finish", "()V"⟩ ⟨"NoteSheetModel", "finish", "()V"⟩ ∈ lw_g := in_pr (q := (⟨"NoteSheetModel", "finish", "()V"⟩, 43)) (i := 38) (by decide +kernel)
theorem q_p39 : Cond.selects "NoteSheetModel" ⟨"NoteSheetModel", "lookThrough", "(II)V"⟩ ⟨"NoteSheetModel", "lookThrough", "(II)V"⟩ ∈ lw_g := in_pr (q := (⟨"NoteSheetModel", "lookThrough", "(II)V"⟩, 43)) (i := 39) (by decide +kernel)
theorem q_p40 : Cond.selects "NoteSheetModel" ⟨"NoteSheetModel", "durabilityOf", "(I)I"⟩ ⟨"NoteSheetModel", "durabilityOf", "(I)I"⟩ ∈ lw_g := in_pr (q := (⟨"NoteSheetModel", "durabilityOf", "(I)I"⟩, 43)) (i := 40) (by decide +kernel)
theorem q_p41 : Cond.selects "NoteSheetModel" ⟨"NoteSheetModel", "sinceOf", "(I)I"⟩ ⟨"NoteSheetModel", "sinceOf", "(I)I"⟩ ∈ lw_g := in_pr (q := (⟨"NoteSheetModel", "sinceOf", "(I)I"⟩, 43)) (i := 41) (by decide +kernel)
theorem q_p42 : Cond.selects "NoteSheetModel" ⟨"NoteSheetModel", "worked", "(IIJ)V"⟩ ⟨"NoteSheetModel", "worked", "(IIJ)V"⟩ ∈ lw_g := in_pr (q := (⟨"NoteSheetModel", "worked", "(IIJ)V"⟩, 43)) (i := 42) (by decide +kernel)
theorem q_p43 : Cond.selects "NoteSheetModel" ⟨"NoteSheetModel", "use", "(I)V"⟩ ⟨"NoteSheetModel", "use", "(I)V"⟩ ∈ lw_g := in_pr (q := (⟨"NoteSheetModel", "use", "(I)V"⟩, 43)) (i := 43) (by decide +kernel)
theorem q_p44 : Cond.selects "NoteSheetModel" ⟨"NoteSheetModel", "advance", "(II)V"⟩ ⟨"NoteSheetModel", "advance", "(II)V"⟩ ∈ lw_g := in_pr (q := (⟨"NoteSheetModel", "advance", "(II)V"⟩, 43)) (i := 44) (by decide +kernel)
theorem q_p45 : Cond.selects "NoteSheetModel" ⟨"NoteSheetModel", "look", "(III)V"⟩ ⟨"NoteSheetModel", "look", "(III)V"⟩ ∈ lw_g := in_pr (q := (⟨"NoteSheetModel", "look", "(III)V"⟩, 43)) (i := 45) (by decide +kernel)
theorem q_p46 : Cond.selects "NoteSheetModel" ⟨"NoteSheetModel", "push", "(IJ)V"⟩ ⟨"NoteSheetModel", "push", "(IJ)V"⟩ ∈ lw_g := in_pr (q := (⟨"NoteSheetModel", "push", "(IJ)V"⟩, 43)) (i := 46) (by decide +kernel)
theorem q_p47 : Cond.selects "NoteSheetModel" ⟨"NoteSheetModel", "pop", "(I)J"⟩ ⟨"NoteSheetModel", "pop", "(I)J"⟩ ∈ lw_g := in_pr (q := (⟨"NoteSheetModel", "pop", "(I)J"⟩, 43)) (i := 47) (by decide +kernel)
theorem q_p48 : Cond.selects "NoteSheetModel" ⟨"NoteSheetModel", "combine", "(II)V"⟩ ⟨"NoteSheetModel", "combine", "(II)V"⟩ ∈ lw_g := in_pr (q := (⟨"NoteSheetModel", "combine", "(II)V"⟩, 43)) (i := 48) (by decide +kernel)
theorem q_p49 : Cond.selects "NoteSheetModel" ⟨"NoteSheetModel", "values", "()I"⟩ ⟨"NoteSheetModel", "values", "()I"⟩ ∈ lw_g := in_pr (q := (⟨"NoteSheetModel", "values", "()I"⟩, 43)) (i := 49) (by decide +kernel)
