abbrev b_x_Law_law : ByteArray := code
def y_x_Law_law : MethodName := ⟨"NoteSheetLaw", "law", "([I)Z"⟩
theorem q_0 : (Jvm.Cond.initialized "NoteSheetLaw") ∈ lw_g := in_t1 (i := 0) (by decide +kernel) rfl
theorem q_20 : (Jvm.Cond.classLink "NoteSheetLaw" (7 : Nat) "NoteSheet") ∈ lw_g := in_t1 (i := 20) (by decide +kernel) rfl
theorem q_21 : (Jvm.Cond.instantiable "NoteSheet" (10 : Nat)) ∈ lw_g := in_t1 (i := 21) (by decide +kernel) rfl
theorem q_22 : (Jvm.Cond.methodLink "NoteSheetLaw" (15 : Nat) ({ cls := "NoteSheet", name := "<init>", desc := "(I)V" } : Jvm.MethodName)) ∈ lw_g := in_t1 (i := 22) (by decide +kernel) rfl
theorem q_23 : (Jvm.Cond.instanceMethod ({ cls := "NoteSheet", name := "<init>", desc := "(I)V" } : Jvm.MethodName)) ∈ lw_g := in_t1 (i := 23) (by decide +kernel) rfl
theorem q_24 : (Jvm.Cond.code ({ cls := "NoteSheet", name := "<init>", desc := "(I)V" } : Jvm.MethodName) prog_1_method_1_code (3 : Nat) (Option.none : Option Jvm.ClassFile.FieldType)) ∈ lw_g := in_t1 (i := 24) (by decide +kernel) rfl
theorem q_170 : (Jvm.Cond.methodLink "NoteSheetLaw" (21 : Nat) ({ cls := "NoteSheet", name := "type", desc := "(C)Z" } : Jvm.MethodName)) ∈ lw_g := in_t1 (i := 170) (by decide +kernel) rfl
theorem q_171 : (Jvm.Cond.instanceMethod ({ cls := "NoteSheet", name := "type", desc := "(C)Z" } : Jvm.MethodName)) ∈ lw_g := in_t1 (i := 171) (by decide +kernel) rfl
theorem q_172 : (Jvm.Cond.selects "NoteSheet" ({ cls := "NoteSheet", name := "type", desc := "(C)Z" } : Jvm.MethodName) ({ cls := "NoteSheet", name := "type", desc := "(C)Z" } : Jvm.MethodName)) ∈ lw_g := in_t1 (i := 172) (by decide +kernel) rfl
theorem q_173 : (Jvm.Cond.code ({ cls := "NoteSheet", name := "type", desc := "(C)Z" } : Jvm.MethodName) prog_1_method_2_code (3 : Nat) (Option.some Jvm.ClassFile.FieldType.boolean)) ∈ lw_g := in_t1 (i := 173) (by decide +kernel) rfl
theorem q_347 : (Jvm.Cond.methodLink "NoteSheetLaw" (26 : Nat) ({ cls := "NoteSheet", name := "define", desc := "(I)I" } : Jvm.MethodName)) ∈ lw_g := in_t1 (i := 347) (by decide +kernel) rfl
theorem q_348 : (Jvm.Cond.instanceMethod ({ cls := "NoteSheet", name := "define", desc := "(I)I" } : Jvm.MethodName)) ∈ lw_g := in_t1 (i := 348) (by decide +kernel) rfl
theorem q_349 : (Jvm.Cond.selects "NoteSheet" ({ cls := "NoteSheet", name := "define", desc := "(I)I" } : Jvm.MethodName) ({ cls := "NoteSheet", name := "define", desc := "(I)I" } : Jvm.MethodName)) ∈ lw_g := in_t1 (i := 349) (by decide +kernel) rfl
theorem q_350 : (Jvm.Cond.code ({ cls := "NoteSheet", name := "define", desc := "(I)I" } : Jvm.MethodName) prog_1_method_5_code (5 : Nat) (Option.some Jvm.ClassFile.FieldType.int)) ∈ lw_g := in_t1 (i := 350) (by decide +kernel) rfl
theorem q_539 : (Jvm.Cond.methodLink "NoteSheetLaw" (31 : Nat) ({ cls := "NoteSheet", name := "set", desc := "(III)Z" } : Jvm.MethodName)) ∈ lw_g := in_t1 (i := 539) (by decide +kernel) rfl
theorem q_540 : (Jvm.Cond.instanceMethod ({ cls := "NoteSheet", name := "set", desc := "(III)Z" } : Jvm.MethodName)) ∈ lw_g := in_t1 (i := 540) (by decide +kernel) rfl
theorem q_541 : (Jvm.Cond.selects "NoteSheet" ({ cls := "NoteSheet", name := "set", desc := "(III)Z" } : Jvm.MethodName) ({ cls := "NoteSheet", name := "set", desc := "(III)Z" } : Jvm.MethodName)) ∈ lw_g := in_t1 (i := 541) (by decide +kernel) rfl
theorem q_542 : (Jvm.Cond.code ({ cls := "NoteSheet", name := "set", desc := "(III)Z" } : Jvm.MethodName) prog_1_method_6_code (5 : Nat) (Option.some Jvm.ClassFile.FieldType.boolean)) ∈ lw_g := in_t1 (i := 542) (by decide +kernel) rfl
theorem q_543 : (Jvm.Cond.methodLink "NoteSheetLaw" (36 : Nat) ({ cls := "NoteSheet", name := "ask", desc := "(I)J" } : Jvm.MethodName)) ∈ lw_g := in_t1 (i := 543) (by decide +kernel) rfl
theorem q_544 : (Jvm.Cond.instanceMethod ({ cls := "NoteSheet", name := "ask", desc := "(I)J" } : Jvm.MethodName)) ∈ lw_g := in_t1 (i := 544) (by decide +kernel) rfl
theorem q_545 : (Jvm.Cond.selects "NoteSheet" ({ cls := "NoteSheet", name := "ask", desc := "(I)J" } : Jvm.MethodName) ({ cls := "NoteSheet", name := "ask", desc := "(I)J" } : Jvm.MethodName)) ∈ lw_g := in_t1 (i := 545) (by decide +kernel) rfl
theorem q_546 : (Jvm.Cond.code ({ cls := "NoteSheet", name := "ask", desc := "(I)J" } : Jvm.MethodName) prog_1_method_16_code (6 : Nat) (Option.some Jvm.ClassFile.FieldType.long)) ∈ lw_g := in_t1 (i := 546) (by decide +kernel) rfl
theorem q_644 : (Jvm.Cond.methodLink "NoteSheetLaw" (41 : Nat) ({ cls := "NoteSheet", name := "revision", desc := "()I" } : Jvm.MethodName)) ∈ lw_g := in_t1 (i := 644) (by decide +kernel) rfl
theorem q_645 : (Jvm.Cond.instanceMethod ({ cls := "NoteSheet", name := "revision", desc := "()I" } : Jvm.MethodName)) ∈ lw_g := in_t1 (i := 645) (by decide +kernel) rfl
theorem q_646 : (Jvm.Cond.selects "NoteSheet" ({ cls := "NoteSheet", name := "revision", desc := "()I" } : Jvm.MethodName) ({ cls := "NoteSheet", name := "revision", desc := "()I" } : Jvm.MethodName)) ∈ lw_g := in_t1 (i := 646) (by decide +kernel) rfl
theorem q_647 : (Jvm.Cond.code ({ cls := "NoteSheet", name := "revision", desc := "()I" } : Jvm.MethodName) prog_1_method_17_code (1 : Nat) (Option.some Jvm.ClassFile.FieldType.int)) ∈ lw_g := in_t1 (i := 647) (by decide +kernel) rfl
theorem q_648 : (Jvm.Cond.methodLink "NoteSheetLaw" (46 : Nat) ({ cls := "NoteSheet", name := "changed", desc := "(I)I" } : Jvm.MethodName)) ∈ lw_g := in_t1 (i := 648) (by decide +kernel) rfl
theorem q_649 : (Jvm.Cond.instanceMethod ({ cls := "NoteSheet", name := "changed", desc := "(I)I" } : Jvm.MethodName)) ∈ lw_g := in_t1 (i := 649) (by decide +kernel) rfl
theorem q_650 : (Jvm.Cond.selects "NoteSheet" ({ cls := "NoteSheet", name := "changed", desc := "(I)I" } : Jvm.MethodName) ({ cls := "NoteSheet", name := "changed", desc := "(I)I" } : Jvm.MethodName)) ∈ lw_g := in_t1 (i := 650) (by decide +kernel) rfl
theorem q_651 : (Jvm.Cond.code ({ cls := "NoteSheet", name := "changed", desc := "(I)I" } : Jvm.MethodName) prog_1_method_18_code (2 : Nat) (Option.some Jvm.ClassFile.FieldType.int)) ∈ lw_g := in_t1 (i := 651) (by decide +kernel) rfl
theorem q_652 : (Jvm.Cond.methodLink "NoteSheetLaw" (50 : Nat) ({ cls := "NoteSheet", name := "note", desc := "(II)I" } : Jvm.MethodName)) ∈ lw_g := in_t1 (i := 652) (by decide +kernel) rfl
theorem q_653 : (Jvm.Cond.instanceMethod ({ cls := "NoteSheet", name := "note", desc := "(II)I" } : Jvm.MethodName)) ∈ lw_g := in_t1 (i := 653) (by decide +kernel) rfl
theorem q_654 : (Jvm.Cond.selects "NoteSheet" ({ cls := "NoteSheet", name := "note", desc := "(II)I" } : Jvm.MethodName) ({ cls := "NoteSheet", name := "note", desc := "(II)I" } : Jvm.MethodName)) ∈ lw_g := in_t1 (i := 654) (by decide +kernel) rfl
theorem q_655 : (Jvm.Cond.code ({ cls := "NoteSheet", name := "note", desc := "(II)I" } : Jvm.MethodName) prog_1_method_19_code (5 : Nat) (Option.some Jvm.ClassFile.FieldType.int)) ∈ lw_g := in_t1 (i := 655) (by decide +kernel) rfl
theorem q_656 : (Jvm.Cond.methodLink "NoteSheetLaw" (55 : Nat) ({ cls := "NoteSheet", name := "read", desc := "(II)I" } : Jvm.MethodName)) ∈ lw_g := in_t1 (i := 656) (by decide +kernel) rfl
theorem q_657 : (Jvm.Cond.instanceMethod ({ cls := "NoteSheet", name := "read", desc := "(II)I" } : Jvm.MethodName)) ∈ lw_g := in_t1 (i := 657) (by decide +kernel) rfl
theorem q_658 : (Jvm.Cond.selects "NoteSheet" ({ cls := "NoteSheet", name := "read", desc := "(II)I" } : Jvm.MethodName) ({ cls := "NoteSheet", name := "read", desc := "(II)I" } : Jvm.MethodName)) ∈ lw_g := in_t1 (i := 658) (by decide +kernel) rfl
theorem q_659 : (Jvm.Cond.code ({ cls := "NoteSheet", name := "read", desc := "(II)I" } : Jvm.MethodName) prog_1_method_20_code (4 : Nat) (Option.some Jvm.ClassFile.FieldType.int)) ∈ lw_g := in_t1 (i := 659) (by decide +kernel) rfl
theorem q_660 : (Jvm.Cond.methodLink "NoteSheetLaw" (59 : Nat) ({ cls := "NoteSheet", name := "count", desc := "(I)I" } : Jvm.MethodName)) ∈ lw_g := in_t1 (i := 660) (by decide +kernel) rfl
theorem q_661 : (Jvm.Cond.instanceMethod ({ cls := "NoteSheet", name := "count", desc := "(I)I" } : Jvm.MethodName)) ∈ lw_g := in_t1 (i := 661) (by decide +kernel) rfl
theorem q_662 : (Jvm.Cond.selects "NoteSheet" ({ cls := "NoteSheet", name := "count", desc := "(I)I" } : Jvm.MethodName) ({ cls := "NoteSheet", name := "count", desc := "(I)I" } : Jvm.MethodName)) ∈ lw_g := in_t1 (i := 662) (by decide +kernel) rfl
theorem q_663 : (Jvm.Cond.code ({ cls := "NoteSheet", name := "count", desc := "(I)I" } : Jvm.MethodName) prog_1_method_21_code (2 : Nat) (Option.some Jvm.ClassFile.FieldType.int)) ∈ lw_g := in_t1 (i := 663) (by decide +kernel) rfl
theorem q_664 : (Jvm.Cond.methodLink "NoteSheetLaw" (9 : Nat) ({ cls := "NoteSheetLaw", name := "cell", desc := "([II)I" } : Jvm.MethodName)) ∈ lw_g := in_t1 (i := 664) (by decide +kernel) rfl
theorem q_665 : (Jvm.Cond.static ({ cls := "NoteSheetLaw", name := "cell", desc := "([II)I" } : Jvm.MethodName)) ∈ lw_g := in_t1 (i := 665) (by decide +kernel) rfl
theorem q_666 : (Jvm.Cond.code ({ cls := "NoteSheetLaw", name := "cell", desc := "([II)I" } : Jvm.MethodName) method_2_code (2 : Nat) (Option.some Jvm.ClassFile.FieldType.int)) ∈ lw_g := in_t1 (i := 666) (by decide +kernel) rfl
theorem q_667 : (Jvm.Cond.classLink "NoteSheetLaw" (18 : Nat) "NoteSheetModel") ∈ lw_g := in_t1 (i := 667) (by decide +kernel) rfl
theorem q_668 : (Jvm.Cond.instantiable "NoteSheetModel" (43 : Nat)) ∈ lw_g := in_t1 (i := 668) (by decide +kernel) rfl
theorem q_669 : (Jvm.Cond.methodLink "NoteSheetLaw" (20 : Nat) ({ cls := "NoteSheetModel", name := "<init>", desc := "(I)V" } : Jvm.MethodName)) ∈ lw_g := in_t1 (i := 669) (by decide +kernel) rfl
theorem q_670 : (Jvm.Cond.instanceMethod ({ cls := "NoteSheetModel", name := "<init>", desc := "(I)V" } : Jvm.MethodName)) ∈ lw_g := in_t1 (i := 670) (by decide +kernel) rfl
theorem q_671 : (Jvm.Cond.code ({ cls := "NoteSheetModel", name := "<init>", desc := "(I)V" } : Jvm.MethodName) prog_8_method_1_code (2 : Nat) (Option.none : Option Jvm.ClassFile.FieldType)) ∈ lw_g := in_t1 (i := 671) (by decide +kernel) rfl
theorem q_804 : (Jvm.Cond.methodLink "NoteSheetLaw" (25 : Nat) ({ cls := "NoteSheetModel", name := "type", desc := "(C)Z" } : Jvm.MethodName)) ∈ lw_g := in_t1 (i := 804) (by decide +kernel) rfl
theorem q_805 : (Jvm.Cond.instanceMethod ({ cls := "NoteSheetModel", name := "type", desc := "(C)Z" } : Jvm.MethodName)) ∈ lw_g := in_t1 (i := 805) (by decide +kernel) rfl
theorem q_806 : (Jvm.Cond.selects "NoteSheetModel" ({ cls := "NoteSheetModel", name := "type", desc := "(C)Z" } : Jvm.MethodName) ({ cls := "NoteSheetModel", name := "type", desc := "(C)Z" } : Jvm.MethodName)) ∈ lw_g := in_t1 (i := 806) (by decide +kernel) rfl
theorem q_807 : (Jvm.Cond.code ({ cls := "NoteSheetModel", name := "type", desc := "(C)Z" } : Jvm.MethodName) prog_8_method_5_code (3 : Nat) (Option.some Jvm.ClassFile.FieldType.boolean)) ∈ lw_g := in_t1 (i := 807) (by decide +kernel) rfl
theorem q_814 : (Jvm.Cond.methodLink "NoteSheetLaw" (30 : Nat) ({ cls := "NoteSheetModel", name := "define", desc := "(I)I" } : Jvm.MethodName)) ∈ lw_g := in_t1 (i := 814) (by decide +kernel) rfl
theorem q_815 : (Jvm.Cond.instanceMethod ({ cls := "NoteSheetModel", name := "define", desc := "(I)I" } : Jvm.MethodName)) ∈ lw_g := in_t1 (i := 815) (by decide +kernel) rfl
theorem q_816 : (Jvm.Cond.selects "NoteSheetModel" ({ cls := "NoteSheetModel", name := "define", desc := "(I)I" } : Jvm.MethodName) ({ cls := "NoteSheetModel", name := "define", desc := "(I)I" } : Jvm.MethodName)) ∈ lw_g := in_t1 (i := 816) (by decide +kernel) rfl
theorem q_817 : (Jvm.Cond.code ({ cls := "NoteSheetModel", name := "define", desc := "(I)I" } : Jvm.MethodName) prog_8_method_18_code (6 : Nat) (Option.some Jvm.ClassFile.FieldType.int)) ∈ lw_g := in_t1 (i := 817) (by decide +kernel) rfl
theorem q_872 : (Jvm.Cond.methodLink "NoteSheetLaw" (35 : Nat) ({ cls := "NoteSheetModel", name := "set", desc := "(III)Z" } : Jvm.MethodName)) ∈ lw_g := in_t1 (i := 872) (by decide +kernel) rfl
theorem q_873 : (Jvm.Cond.instanceMethod ({ cls := "NoteSheetModel", name := "set", desc := "(III)Z" } : Jvm.MethodName)) ∈ lw_g := in_t1 (i := 873) (by decide +kernel) rfl
theorem q_874 : (Jvm.Cond.selects "NoteSheetModel" ({ cls := "NoteSheetModel", name := "set", desc := "(III)Z" } : Jvm.MethodName) ({ cls := "NoteSheetModel", name := "set", desc := "(III)Z" } : Jvm.MethodName)) ∈ lw_g := in_t1 (i := 874) (by decide +kernel) rfl
theorem q_875 : (Jvm.Cond.code ({ cls := "NoteSheetModel", name := "set", desc := "(III)Z" } : Jvm.MethodName) prog_8_method_20_code (5 : Nat) (Option.some Jvm.ClassFile.FieldType.boolean)) ∈ lw_g := in_t1 (i := 875) (by decide +kernel) rfl
theorem q_876 : (Jvm.Cond.methodLink "NoteSheetLaw" (40 : Nat) ({ cls := "NoteSheetModel", name := "ask", desc := "(I)J" } : Jvm.MethodName)) ∈ lw_g := in_t1 (i := 876) (by decide +kernel) rfl
theorem q_877 : (Jvm.Cond.instanceMethod ({ cls := "NoteSheetModel", name := "ask", desc := "(I)J" } : Jvm.MethodName)) ∈ lw_g := in_t1 (i := 877) (by decide +kernel) rfl
theorem q_878 : (Jvm.Cond.selects "NoteSheetModel" ({ cls := "NoteSheetModel", name := "ask", desc := "(I)J" } : Jvm.MethodName) ({ cls := "NoteSheetModel", name := "ask", desc := "(I)J" } : Jvm.MethodName)) ∈ lw_g := in_t1 (i := 878) (by decide +kernel) rfl
theorem q_879 : (Jvm.Cond.code ({ cls := "NoteSheetModel", name := "ask", desc := "(I)J" } : Jvm.MethodName) prog_8_method_38_code (6 : Nat) (Option.some Jvm.ClassFile.FieldType.long)) ∈ lw_g := in_t1 (i := 879) (by decide +kernel) rfl
theorem q_950 : (Jvm.Cond.methodLink "NoteSheetLaw" (45 : Nat) ({ cls := "NoteSheetModel", name := "revision", desc := "()I" } : Jvm.MethodName)) ∈ lw_g := in_t1 (i := 950) (by decide +kernel) rfl
theorem q_951 : (Jvm.Cond.instanceMethod ({ cls := "NoteSheetModel", name := "revision", desc := "()I" } : Jvm.MethodName)) ∈ lw_g := in_t1 (i := 951) (by decide +kernel) rfl
theorem q_952 : (Jvm.Cond.selects "NoteSheetModel" ({ cls := "NoteSheetModel", name := "revision", desc := "()I" } : Jvm.MethodName) ({ cls := "NoteSheetModel", name := "revision", desc := "()I" } : Jvm.MethodName)) ∈ lw_g := in_t1 (i := 952) (by decide +kernel) rfl
theorem q_953 : (Jvm.Cond.code ({ cls := "NoteSheetModel", name := "revision", desc := "()I" } : Jvm.MethodName) prog_8_method_39_code (1 : Nat) (Option.some Jvm.ClassFile.FieldType.int)) ∈ lw_g := in_t1 (i := 953) (by decide +kernel) rfl
theorem q_954 : (Jvm.Cond.methodLink "NoteSheetLaw" (49 : Nat) ({ cls := "NoteSheetModel", name := "changed", desc := "(I)I" } : Jvm.MethodName)) ∈ lw_g := in_t1 (i := 954) (by decide +kernel) rfl
theorem q_955 : (Jvm.Cond.instanceMethod ({ cls := "NoteSheetModel", name := "changed", desc := "(I)I" } : Jvm.MethodName)) ∈ lw_g := in_t1 (i := 955) (by decide +kernel) rfl
theorem q_956 : (Jvm.Cond.selects "NoteSheetModel" ({ cls := "NoteSheetModel", name := "changed", desc := "(I)I" } : Jvm.MethodName) ({ cls := "NoteSheetModel", name := "changed", desc := "(I)I" } : Jvm.MethodName)) ∈ lw_g := in_t1 (i := 956) (by decide +kernel) rfl
theorem q_957 : (Jvm.Cond.code ({ cls := "NoteSheetModel", name := "changed", desc := "(I)I" } : Jvm.MethodName) prog_8_method_40_code (2 : Nat) (Option.some Jvm.ClassFile.FieldType.int)) ∈ lw_g := in_t1 (i := 957) (by decide +kernel) rfl
theorem q_958 : (Jvm.Cond.methodLink "NoteSheetLaw" (54 : Nat) ({ cls := "NoteSheetModel", name := "note", desc := "(II)I" } : Jvm.MethodName)) ∈ lw_g := in_t1 (i := 958) (by decide +kernel) rfl
theorem q_959 : (Jvm.Cond.instanceMethod ({ cls := "NoteSheetModel", name := "note", desc := "(II)I" } : Jvm.MethodName)) ∈ lw_g := in_t1 (i := 959) (by decide +kernel) rfl
theorem q_960 : (Jvm.Cond.selects "NoteSheetModel" ({ cls := "NoteSheetModel", name := "note", desc := "(II)I" } : Jvm.MethodName) ({ cls := "NoteSheetModel", name := "note", desc := "(II)I" } : Jvm.MethodName)) ∈ lw_g := in_t1 (i := 960) (by decide +kernel) rfl
theorem q_961 : (Jvm.Cond.code ({ cls := "NoteSheetModel", name := "note", desc := "(II)I" } : Jvm.MethodName) prog_8_method_41_code (4 : Nat) (Option.some Jvm.ClassFile.FieldType.int)) ∈ lw_g := in_t1 (i := 961) (by decide +kernel) rfl
theorem q_962 : (Jvm.Cond.methodLink "NoteSheetLaw" (58 : Nat) ({ cls := "NoteSheetModel", name := "read", desc := "(II)I" } : Jvm.MethodName)) ∈ lw_g := in_t1 (i := 962) (by decide +kernel) rfl
theorem q_963 : (Jvm.Cond.instanceMethod ({ cls := "NoteSheetModel", name := "read", desc := "(II)I" } : Jvm.MethodName)) ∈ lw_g := in_t1 (i := 963) (by decide +kernel) rfl
theorem q_964 : (Jvm.Cond.selects "NoteSheetModel" ({ cls := "NoteSheetModel", name := "read", desc := "(II)I" } : Jvm.MethodName) ({ cls := "NoteSheetModel", name := "read", desc := "(II)I" } : Jvm.MethodName)) ∈ lw_g := in_t1 (i := 964) (by decide +kernel) rfl
theorem q_965 : (Jvm.Cond.code ({ cls := "NoteSheetModel", name := "read", desc := "(II)I" } : Jvm.MethodName) prog_8_method_42_code (3 : Nat) (Option.some Jvm.ClassFile.FieldType.int)) ∈ lw_g := in_t1 (i := 965) (by decide +kernel) rfl
theorem q_966 : (Jvm.Cond.methodLink "NoteSheetLaw" (62 : Nat) ({ cls := "NoteSheetModel", name := "count", desc := "(I)I" } : Jvm.MethodName)) ∈ lw_g := in_t1 (i := 966) (by decide +kernel) rfl
theorem q_967 : (Jvm.Cond.instanceMethod ({ cls := "NoteSheetModel", name := "count", desc := "(I)I" } : Jvm.MethodName)) ∈ lw_g := in_t1 (i := 967) (by decide +kernel) rfl
theorem q_968 : (Jvm.Cond.selects "NoteSheetModel" ({ cls := "NoteSheetModel", name := "count", desc := "(I)I" } : Jvm.MethodName) ({ cls := "NoteSheetModel", name := "count", desc := "(I)I" } : Jvm.MethodName)) ∈ lw_g := in_t1 (i := 968) (by decide +kernel) rfl
theorem q_969 : (Jvm.Cond.code ({ cls := "NoteSheetModel", name := "count", desc := "(I)I" } : Jvm.MethodName) prog_8_method_43_code (2 : Nat) (Option.some Jvm.ClassFile.FieldType.int)) ∈ lw_g := in_t1 (i := 969) (by decide +kernel) rfl
theorem d_x_Law_law_0 : decode b_x_Law_law 0 = .ok (.new 7, 3) := by decide +kernel
theorem d_x_Law_law_3 : decode b_x_Law_law 3 = .ok (.dup, 1) := by decide +kernel
theorem d_x_Law_law_4 : decode b_x_Law_law 4 = .ok (.aload_n 0, 1) := by decide +kernel
theorem d_x_Law_law_5 : decode b_x_Law_law 5 = .ok (.iconst 0, 1) := by decide +kernel
theorem d_x_Law_law_6 : decode b_x_Law_law 6 = .ok (.invokestatic 9, 3) := by decide +kernel
theorem d_x_Law_law_9 : decode b_x_Law_law 9 = .ok (.invokespecial 15, 3) := by decide +kernel
theorem d_x_Law_law_12 : decode b_x_Law_law 12 = .ok (.astore_n 1, 1) := by decide +kernel
theorem d_x_Law_law_13 : decode b_x_Law_law 13 = .ok (.new 18, 3) := by decide +kernel
theorem d_x_Law_law_16 : decode b_x_Law_law 16 = .ok (.dup, 1) := by decide +kernel
theorem d_x_Law_law_17 : decode b_x_Law_law 17 = .ok (.aload_n 0, 1) := by decide +kernel
theorem d_x_Law_law_18 : decode b_x_Law_law 18 = .ok (.iconst 0, 1) := by decide +kernel
theorem d_x_Law_law_19 : decode b_x_Law_law 19 = .ok (.invokestatic 9, 3) := by decide +kernel
theorem d_x_Law_law_22 : decode b_x_Law_law 22 = .ok (.invokespecial 20, 3) := by decide +kernel
theorem d_x_Law_law_25 : decode b_x_Law_law 25 = .ok (.astore_n 2, 1) := by decide +kernel
theorem d_x_Law_law_26 : decode b_x_Law_law 26 = .ok (.iconst 1, 1) := by decide +kernel
theorem d_x_Law_law_27 : decode b_x_Law_law 27 = .ok (.istore_n 3, 1) := by decide +kernel
theorem d_x_Law_law_28 : decode b_x_Law_law 28 = .ok (.iload_n 3, 1) := by decide +kernel
theorem d_x_Law_law_29 : decode b_x_Law_law 29 = .ok (.aload_n 0, 1) := by decide +kernel
theorem d_x_Law_law_30 : decode b_x_Law_law 30 = .ok (.arraylength, 1) := by decide +kernel
theorem d_x_Law_law_31 : decode b_x_Law_law 31 = .ok (.iconst 4, 1) := by decide +kernel
theorem d_x_Law_law_32 : decode b_x_Law_law 32 = .ok (.isub, 1) := by decide +kernel
theorem d_x_Law_law_33 : decode b_x_Law_law 33 = .ok (.if_icmp .gt 305, 3) := by decide +kernel
theorem d_x_Law_law_36 : decode b_x_Law_law 36 = .ok (.aload_n 0, 1) := by decide +kernel
theorem d_x_Law_law_37 : decode b_x_Law_law 37 = .ok (.iload_n 3, 1) := by decide +kernel
theorem d_x_Law_law_38 : decode b_x_Law_law 38 = .ok (.iaload, 1) := by decide +kernel
theorem d_x_Law_law_39 : decode b_x_Law_law 39 = .ok (.bipush 15, 2) := by decide +kernel
theorem d_x_Law_law_41 : decode b_x_Law_law 41 = .ok (.iand, 1) := by decide +kernel
theorem d_x_Law_law_42 : decode b_x_Law_law 42 = .ok (.tableswitch 290 0 8 #[50, 75, 98, 141, 165, 178, 201, 234, 267], 50) := by decide +kernel
theorem d_x_Law_law_92 : decode b_x_Law_law 92 = .ok (.aload_n 1, 1) := by decide +kernel
theorem d_x_Law_law_93 : decode b_x_Law_law 93 = .ok (.aload_n 0, 1) := by decide +kernel
theorem d_x_Law_law_94 : decode b_x_Law_law 94 = .ok (.iload_n 3, 1) := by decide +kernel
theorem d_x_Law_law_95 : decode b_x_Law_law 95 = .ok (.iconst 1, 1) := by decide +kernel
theorem d_x_Law_law_96 : decode b_x_Law_law 96 = .ok (.iadd, 1) := by decide +kernel
theorem d_x_Law_law_97 : decode b_x_Law_law 97 = .ok (.iaload, 1) := by decide +kernel
theorem d_x_Law_law_98 : decode b_x_Law_law 98 = .ok (.i2c, 1) := by decide +kernel
theorem d_x_Law_law_99 : decode b_x_Law_law 99 = .ok (.invokevirtual 21, 3) := by decide +kernel
theorem d_x_Law_law_102 : decode b_x_Law_law 102 = .ok (.aload_n 2, 1) := by decide +kernel
theorem d_x_Law_law_103 : decode b_x_Law_law 103 = .ok (.aload_n 0, 1) := by decide +kernel
theorem d_x_Law_law_104 : decode b_x_Law_law 104 = .ok (.iload_n 3, 1) := by decide +kernel
theorem d_x_Law_law_105 : decode b_x_Law_law 105 = .ok (.iconst 1, 1) := by decide +kernel
theorem d_x_Law_law_106 : decode b_x_Law_law 106 = .ok (.iadd, 1) := by decide +kernel
theorem d_x_Law_law_107 : decode b_x_Law_law 107 = .ok (.iaload, 1) := by decide +kernel
theorem d_x_Law_law_108 : decode b_x_Law_law 108 = .ok (.i2c, 1) := by decide +kernel
theorem d_x_Law_law_109 : decode b_x_Law_law 109 = .ok (.invokevirtual 25, 3) := by decide +kernel
theorem d_x_Law_law_112 : decode b_x_Law_law 112 = .ok (.if_icmp .eq 220, 3) := by decide +kernel
theorem d_x_Law_law_115 : decode b_x_Law_law 115 = .ok (.iconst 0, 1) := by decide +kernel
theorem d_x_Law_law_116 : decode b_x_Law_law 116 = .ok (.ireturn, 1) := by decide +kernel
theorem d_x_Law_law_117 : decode b_x_Law_law 117 = .ok (.aload_n 1, 1) := by decide +kernel
theorem d_x_Law_law_118 : decode b_x_Law_law 118 = .ok (.aload_n 0, 1) := by decide +kernel
theorem d_x_Law_law_119 : decode b_x_Law_law 119 = .ok (.iload_n 3, 1) := by decide +kernel
theorem d_x_Law_law_120 : decode b_x_Law_law 120 = .ok (.iconst 1, 1) := by decide +kernel
theorem d_x_Law_law_121 : decode b_x_Law_law 121 = .ok (.iadd, 1) := by decide +kernel
theorem d_x_Law_law_122 : decode b_x_Law_law 122 = .ok (.iaload, 1) := by decide +kernel
theorem d_x_Law_law_123 : decode b_x_Law_law 123 = .ok (.invokevirtual 26, 3) := by decide +kernel
theorem d_x_Law_law_126 : decode b_x_Law_law 126 = .ok (.aload_n 2, 1) := by decide +kernel
theorem d_x_Law_law_127 : decode b_x_Law_law 127 = .ok (.aload_n 0, 1) := by decide +kernel
theorem d_x_Law_law_128 : decode b_x_Law_law 128 = .ok (.iload_n 3, 1) := by decide +kernel
theorem d_x_Law_law_129 : decode b_x_Law_law 129 = .ok (.iconst 1, 1) := by decide +kernel
theorem d_x_Law_law_130 : decode b_x_Law_law 130 = .ok (.iadd, 1) := by decide +kernel
theorem d_x_Law_law_131 : decode b_x_Law_law 131 = .ok (.iaload, 1) := by decide +kernel
theorem d_x_Law_law_132 : decode b_x_Law_law 132 = .ok (.invokevirtual 30, 3) := by decide +kernel
theorem d_x_Law_law_135 : decode b_x_Law_law 135 = .ok (.if_icmp .eq 197, 3) := by decide +kernel
theorem d_x_Law_law_138 : decode b_x_Law_law 138 = .ok (.iconst 0, 1) := by decide +kernel
theorem d_x_Law_law_139 : decode b_x_Law_law 139 = .ok (.ireturn, 1) := by decide +kernel
theorem d_x_Law_law_140 : decode b_x_Law_law 140 = .ok (.aload_n 1, 1) := by decide +kernel
theorem d_x_Law_law_141 : decode b_x_Law_law 141 = .ok (.aload_n 0, 1) := by decide +kernel
theorem d_x_Law_law_142 : decode b_x_Law_law 142 = .ok (.iload_n 3, 1) := by decide +kernel
theorem d_x_Law_law_143 : decode b_x_Law_law 143 = .ok (.iconst 1, 1) := by decide +kernel
theorem d_x_Law_law_144 : decode b_x_Law_law 144 = .ok (.iadd, 1) := by decide +kernel
theorem d_x_Law_law_145 : decode b_x_Law_law 145 = .ok (.iaload, 1) := by decide +kernel
theorem d_x_Law_law_146 : decode b_x_Law_law 146 = .ok (.aload_n 0, 1) := by decide +kernel
theorem d_x_Law_law_147 : decode b_x_Law_law 147 = .ok (.iload_n 3, 1) := by decide +kernel
theorem d_x_Law_law_148 : decode b_x_Law_law 148 = .ok (.iconst 2, 1) := by decide +kernel
theorem d_x_Law_law_149 : decode b_x_Law_law 149 = .ok (.iadd, 1) := by decide +kernel
theorem d_x_Law_law_150 : decode b_x_Law_law 150 = .ok (.iaload, 1) := by decide +kernel
theorem d_x_Law_law_151 : decode b_x_Law_law 151 = .ok (.aload_n 0, 1) := by decide +kernel
theorem d_x_Law_law_152 : decode b_x_Law_law 152 = .ok (.iload_n 3, 1) := by decide +kernel
theorem d_x_Law_law_153 : decode b_x_Law_law 153 = .ok (.iconst 3, 1) := by decide +kernel
theorem d_x_Law_law_154 : decode b_x_Law_law 154 = .ok (.iadd, 1) := by decide +kernel
theorem d_x_Law_law_155 : decode b_x_Law_law 155 = .ok (.iaload, 1) := by decide +kernel
theorem d_x_Law_law_156 : decode b_x_Law_law 156 = .ok (.invokevirtual 31, 3) := by decide +kernel
theorem d_x_Law_law_159 : decode b_x_Law_law 159 = .ok (.aload_n 2, 1) := by decide +kernel
theorem d_x_Law_law_160 : decode b_x_Law_law 160 = .ok (.aload_n 0, 1) := by decide +kernel
theorem d_x_Law_law_161 : decode b_x_Law_law 161 = .ok (.iload_n 3, 1) := by decide +kernel
theorem d_x_Law_law_162 : decode b_x_Law_law 162 = .ok (.iconst 1, 1) := by decide +kernel
theorem d_x_Law_law_163 : decode b_x_Law_law 163 = .ok (.iadd, 1) := by decide +kernel
theorem d_x_Law_law_164 : decode b_x_Law_law 164 = .ok (.iaload, 1) := by decide +kernel
theorem d_x_Law_law_165 : decode b_x_Law_law 165 = .ok (.aload_n 0, 1) := by decide +kernel
theorem d_x_Law_law_166 : decode b_x_Law_law 166 = .ok (.iload_n 3, 1) := by decide +kernel
theorem d_x_Law_law_167 : decode b_x_Law_law 167 = .ok (.iconst 2, 1) := by decide +kernel
theorem d_x_Law_law_168 : decode b_x_Law_law 168 = .ok (.iadd, 1) := by decide +kernel
theorem d_x_Law_law_169 : decode b_x_Law_law 169 = .ok (.iaload, 1) := by decide +kernel
theorem d_x_Law_law_170 : decode b_x_Law_law 170 = .ok (.aload_n 0, 1) := by decide +kernel
theorem d_x_Law_law_171 : decode b_x_Law_law 171 = .ok (.iload_n 3, 1) := by decide +kernel
theorem d_x_Law_law_172 : decode b_x_Law_law 172 = .ok (.iconst 3, 1) := by decide +kernel
theorem d_x_Law_law_173 : decode b_x_Law_law 173 = .ok (.iadd, 1) := by decide +kernel
theorem d_x_Law_law_174 : decode b_x_Law_law 174 = .ok (.iaload, 1) := by decide +kernel
theorem d_x_Law_law_175 : decode b_x_Law_law 175 = .ok (.invokevirtual 35, 3) := by decide +kernel
theorem d_x_Law_law_178 : decode b_x_Law_law 178 = .ok (.if_icmp .eq 154, 3) := by decide +kernel
theorem d_x_Law_law_181 : decode b_x_Law_law 181 = .ok (.iconst 0, 1) := by decide +kernel
theorem d_x_Law_law_182 : decode b_x_Law_law 182 = .ok (.ireturn, 1) := by decide +kernel
theorem d_x_Law_law_183 : decode b_x_Law_law 183 = .ok (.aload_n 1, 1) := by decide +kernel
theorem d_x_Law_law_184 : decode b_x_Law_law 184 = .ok (.aload_n 0, 1) := by decide +kernel
theorem d_x_Law_law_185 : decode b_x_Law_law 185 = .ok (.iload_n 3, 1) := by decide +kernel
theorem d_x_Law_law_186 : decode b_x_Law_law 186 = .ok (.iconst 1, 1) := by decide +kernel
theorem d_x_Law_law_187 : decode b_x_Law_law 187 = .ok (.iadd, 1) := by decide +kernel
theorem d_x_Law_law_188 : decode b_x_Law_law 188 = .ok (.iaload, 1) := by decide +kernel
theorem d_x_Law_law_189 : decode b_x_Law_law 189 = .ok (.invokevirtual 36, 3) := by decide +kernel
theorem d_x_Law_law_192 : decode b_x_Law_law 192 = .ok (.aload_n 2, 1) := by decide +kernel
theorem d_x_Law_law_193 : decode b_x_Law_law 193 = .ok (.aload_n 0, 1) := by decide +kernel
theorem d_x_Law_law_194 : decode b_x_Law_law 194 = .ok (.iload_n 3, 1) := by decide +kernel
theorem d_x_Law_law_195 : decode b_x_Law_law 195 = .ok (.iconst 1, 1) := by decide +kernel
theorem d_x_Law_law_196 : decode b_x_Law_law 196 = .ok (.iadd, 1) := by decide +kernel
theorem d_x_Law_law_197 : decode b_x_Law_law 197 = .ok (.iaload, 1) := by decide +kernel
theorem d_x_Law_law_198 : decode b_x_Law_law 198 = .ok (.invokevirtual 40, 3) := by decide +kernel
theorem d_x_Law_law_201 : decode b_x_Law_law 201 = .ok (.lcmp, 1) := by decide +kernel
theorem d_x_Law_law_202 : decode b_x_Law_law 202 = .ok (.ifCond .eq 130, 3) := by decide +kernel
theorem d_x_Law_law_205 : decode b_x_Law_law 205 = .ok (.iconst 0, 1) := by decide +kernel
theorem d_x_Law_law_206 : decode b_x_Law_law 206 = .ok (.ireturn, 1) := by decide +kernel
theorem d_x_Law_law_207 : decode b_x_Law_law 207 = .ok (.aload_n 1, 1) := by decide +kernel
theorem d_x_Law_law_208 : decode b_x_Law_law 208 = .ok (.invokevirtual 41, 3) := by decide +kernel
theorem d_x_Law_law_211 : decode b_x_Law_law 211 = .ok (.aload_n 2, 1) := by decide +kernel
theorem d_x_Law_law_212 : decode b_x_Law_law 212 = .ok (.invokevirtual 45, 3) := by decide +kernel
theorem d_x_Law_law_215 : decode b_x_Law_law 215 = .ok (.if_icmp .eq 117, 3) := by decide +kernel
theorem d_x_Law_law_218 : decode b_x_Law_law 218 = .ok (.iconst 0, 1) := by decide +kernel
theorem d_x_Law_law_219 : decode b_x_Law_law 219 = .ok (.ireturn, 1) := by decide +kernel
theorem d_x_Law_law_220 : decode b_x_Law_law 220 = .ok (.aload_n 1, 1) := by decide +kernel
theorem d_x_Law_law_221 : decode b_x_Law_law 221 = .ok (.aload_n 0, 1) := by decide +kernel
theorem d_x_Law_law_222 : decode b_x_Law_law 222 = .ok (.iload_n 3, 1) := by decide +kernel
theorem d_x_Law_law_223 : decode b_x_Law_law 223 = .ok (.iconst 1, 1) := by decide +kernel
theorem d_x_Law_law_224 : decode b_x_Law_law 224 = .ok (.iadd, 1) := by decide +kernel
theorem d_x_Law_law_225 : decode b_x_Law_law 225 = .ok (.iaload, 1) := by decide +kernel
theorem d_x_Law_law_226 : decode b_x_Law_law 226 = .ok (.invokevirtual 46, 3) := by decide +kernel
theorem d_x_Law_law_229 : decode b_x_Law_law 229 = .ok (.aload_n 2, 1) := by decide +kernel
theorem d_x_Law_law_230 : decode b_x_Law_law 230 = .ok (.aload_n 0, 1) := by decide +kernel
theorem d_x_Law_law_231 : decode b_x_Law_law 231 = .ok (.iload_n 3, 1) := by decide +kernel
theorem d_x_Law_law_232 : decode b_x_Law_law 232 = .ok (.iconst 1, 1) := by decide +kernel
theorem d_x_Law_law_233 : decode b_x_Law_law 233 = .ok (.iadd, 1) := by decide +kernel
theorem d_x_Law_law_234 : decode b_x_Law_law 234 = .ok (.iaload, 1) := by decide +kernel
theorem d_x_Law_law_235 : decode b_x_Law_law 235 = .ok (.invokevirtual 49, 3) := by decide +kernel
theorem d_x_Law_law_238 : decode b_x_Law_law 238 = .ok (.if_icmp .eq 94, 3) := by decide +kernel
theorem d_x_Law_law_241 : decode b_x_Law_law 241 = .ok (.iconst 0, 1) := by decide +kernel
theorem d_x_Law_law_242 : decode b_x_Law_law 242 = .ok (.ireturn, 1) := by decide +kernel
theorem d_x_Law_law_243 : decode b_x_Law_law 243 = .ok (.aload_n 1, 1) := by decide +kernel
theorem d_x_Law_law_244 : decode b_x_Law_law 244 = .ok (.aload_n 0, 1) := by decide +kernel
theorem d_x_Law_law_245 : decode b_x_Law_law 245 = .ok (.iload_n 3, 1) := by decide +kernel
theorem d_x_Law_law_246 : decode b_x_Law_law 246 = .ok (.iconst 1, 1) := by decide +kernel
theorem d_x_Law_law_247 : decode b_x_Law_law 247 = .ok (.iadd, 1) := by decide +kernel
theorem d_x_Law_law_248 : decode b_x_Law_law 248 = .ok (.iaload, 1) := by decide +kernel
theorem d_x_Law_law_249 : decode b_x_Law_law 249 = .ok (.aload_n 0, 1) := by decide +kernel
theorem d_x_Law_law_250 : decode b_x_Law_law 250 = .ok (.iload_n 3, 1) := by decide +kernel
theorem d_x_Law_law_251 : decode b_x_Law_law 251 = .ok (.iconst 2, 1) := by decide +kernel
theorem d_x_Law_law_252 : decode b_x_Law_law 252 = .ok (.iadd, 1) := by decide +kernel
theorem d_x_Law_law_253 : decode b_x_Law_law 253 = .ok (.iaload, 1) := by decide +kernel
theorem d_x_Law_law_254 : decode b_x_Law_law 254 = .ok (.invokevirtual 50, 3) := by decide +kernel
theorem d_x_Law_law_257 : decode b_x_Law_law 257 = .ok (.aload_n 2, 1) := by decide +kernel
theorem d_x_Law_law_258 : decode b_x_Law_law 258 = .ok (.aload_n 0, 1) := by decide +kernel
theorem d_x_Law_law_259 : decode b_x_Law_law 259 = .ok (.iload_n 3, 1) := by decide +kernel
theorem d_x_Law_law_260 : decode b_x_Law_law 260 = .ok (.iconst 1, 1) := by decide +kernel
theorem d_x_Law_law_261 : decode b_x_Law_law 261 = .ok (.iadd, 1) := by decide +kernel
theorem d_x_Law_law_262 : decode b_x_Law_law 262 = .ok (.iaload, 1) := by decide +kernel
theorem d_x_Law_law_263 : decode b_x_Law_law 263 = .ok (.aload_n 0, 1) := by decide +kernel
theorem d_x_Law_law_264 : decode b_x_Law_law 264 = .ok (.iload_n 3, 1) := by decide +kernel
theorem d_x_Law_law_265 : decode b_x_Law_law 265 = .ok (.iconst 2, 1) := by decide +kernel
theorem d_x_Law_law_266 : decode b_x_Law_law 266 = .ok (.iadd, 1) := by decide +kernel
theorem d_x_Law_law_267 : decode b_x_Law_law 267 = .ok (.iaload, 1) := by decide +kernel
theorem d_x_Law_law_268 : decode b_x_Law_law 268 = .ok (.invokevirtual 54, 3) := by decide +kernel
theorem d_x_Law_law_271 : decode b_x_Law_law 271 = .ok (.if_icmp .eq 61, 3) := by decide +kernel
theorem d_x_Law_law_274 : decode b_x_Law_law 274 = .ok (.iconst 0, 1) := by decide +kernel
theorem d_x_Law_law_275 : decode b_x_Law_law 275 = .ok (.ireturn, 1) := by decide +kernel
theorem d_x_Law_law_276 : decode b_x_Law_law 276 = .ok (.aload_n 1, 1) := by decide +kernel
theorem d_x_Law_law_277 : decode b_x_Law_law 277 = .ok (.aload_n 0, 1) := by decide +kernel
theorem d_x_Law_law_278 : decode b_x_Law_law 278 = .ok (.iload_n 3, 1) := by decide +kernel
theorem d_x_Law_law_279 : decode b_x_Law_law 279 = .ok (.iconst 1, 1) := by decide +kernel
theorem d_x_Law_law_280 : decode b_x_Law_law 280 = .ok (.iadd, 1) := by decide +kernel
theorem d_x_Law_law_281 : decode b_x_Law_law 281 = .ok (.iaload, 1) := by decide +kernel
theorem d_x_Law_law_282 : decode b_x_Law_law 282 = .ok (.aload_n 0, 1) := by decide +kernel
theorem d_x_Law_law_283 : decode b_x_Law_law 283 = .ok (.iload_n 3, 1) := by decide +kernel
theorem d_x_Law_law_284 : decode b_x_Law_law 284 = .ok (.iconst 2, 1) := by decide +kernel
theorem d_x_Law_law_285 : decode b_x_Law_law 285 = .ok (.iadd, 1) := by decide +kernel
theorem d_x_Law_law_286 : decode b_x_Law_law 286 = .ok (.iaload, 1) := by decide +kernel
theorem d_x_Law_law_287 : decode b_x_Law_law 287 = .ok (.invokevirtual 55, 3) := by decide +kernel
theorem d_x_Law_law_290 : decode b_x_Law_law 290 = .ok (.aload_n 2, 1) := by decide +kernel
theorem d_x_Law_law_291 : decode b_x_Law_law 291 = .ok (.aload_n 0, 1) := by decide +kernel
theorem d_x_Law_law_292 : decode b_x_Law_law 292 = .ok (.iload_n 3, 1) := by decide +kernel
theorem d_x_Law_law_293 : decode b_x_Law_law 293 = .ok (.iconst 1, 1) := by decide +kernel
theorem d_x_Law_law_294 : decode b_x_Law_law 294 = .ok (.iadd, 1) := by decide +kernel
theorem d_x_Law_law_295 : decode b_x_Law_law 295 = .ok (.iaload, 1) := by decide +kernel
theorem d_x_Law_law_296 : decode b_x_Law_law 296 = .ok (.aload_n 0, 1) := by decide +kernel
theorem d_x_Law_law_297 : decode b_x_Law_law 297 = .ok (.iload_n 3, 1) := by decide +kernel
theorem d_x_Law_law_298 : decode b_x_Law_law 298 = .ok (.iconst 2, 1) := by decide +kernel
theorem d_x_Law_law_299 : decode b_x_Law_law 299 = .ok (.iadd, 1) := by decide +kernel
theorem d_x_Law_law_300 : decode b_x_Law_law 300 = .ok (.iaload, 1) := by decide +kernel
theorem d_x_Law_law_301 : decode b_x_Law_law 301 = .ok (.invokevirtual 58, 3) := by decide +kernel
theorem d_x_Law_law_304 : decode b_x_Law_law 304 = .ok (.if_icmp .eq 28, 3) := by decide +kernel
theorem d_x_Law_law_307 : decode b_x_Law_law 307 = .ok (.iconst 0, 1) := by decide +kernel
theorem d_x_Law_law_308 : decode b_x_Law_law 308 = .ok (.ireturn, 1) := by decide +kernel
theorem d_x_Law_law_309 : decode b_x_Law_law 309 = .ok (.aload_n 1, 1) := by decide +kernel
theorem d_x_Law_law_310 : decode b_x_Law_law 310 = .ok (.aload_n 0, 1) := by decide +kernel
theorem d_x_Law_law_311 : decode b_x_Law_law 311 = .ok (.iload_n 3, 1) := by decide +kernel
theorem d_x_Law_law_312 : decode b_x_Law_law 312 = .ok (.iconst 1, 1) := by decide +kernel
theorem d_x_Law_law_313 : decode b_x_Law_law 313 = .ok (.iadd, 1) := by decide +kernel
theorem d_x_Law_law_314 : decode b_x_Law_law 314 = .ok (.iaload, 1) := by decide +kernel
theorem d_x_Law_law_315 : decode b_x_Law_law 315 = .ok (.invokevirtual 59, 3) := by decide +kernel
theorem d_x_Law_law_318 : decode b_x_Law_law 318 = .ok (.aload_n 2, 1) := by decide +kernel
theorem d_x_Law_law_319 : decode b_x_Law_law 319 = .ok (.aload_n 0, 1) := by decide +kernel
theorem d_x_Law_law_320 : decode b_x_Law_law 320 = .ok (.iload_n 3, 1) := by decide +kernel
theorem d_x_Law_law_321 : decode b_x_Law_law 321 = .ok (.iconst 1, 1) := by decide +kernel
theorem d_x_Law_law_322 : decode b_x_Law_law 322 = .ok (.iadd, 1) := by decide +kernel
theorem d_x_Law_law_323 : decode b_x_Law_law 323 = .ok (.iaload, 1) := by decide +kernel
theorem d_x_Law_law_324 : decode b_x_Law_law 324 = .ok (.invokevirtual 62, 3) := by decide +kernel
theorem d_x_Law_law_327 : decode b_x_Law_law 327 = .ok (.if_icmp .eq 5, 3) := by decide +kernel
theorem d_x_Law_law_330 : decode b_x_Law_law 330 = .ok (.iconst 0, 1) := by decide +kernel
theorem d_x_Law_law_331 : decode b_x_Law_law 331 = .ok (.ireturn, 1) := by decide +kernel
theorem d_x_Law_law_332 : decode b_x_Law_law 332 = .ok (.iinc 3 4, 3) := by decide +kernel
theorem d_x_Law_law_335 : decode b_x_Law_law 335 = .ok (.goto (-307), 3) := by decide +kernel
theorem d_x_Law_law_338 : decode b_x_Law_law 338 = .ok (.iconst 1, 1) := by decide +kernel
theorem d_x_Law_law_339 : decode b_x_Law_law 339 = .ok (.ireturn, 1) := by decide +kernel
section
variable {p : Program} {l : Launch} {e : Env} {s : State} {m : MethodId} {args : Array Value} {below : List Frame} {meth : Method} {c : Code} {G : HG} {A : Nat → Prop} {K Kg : Nat}
theorem w_x_Law_law_J332 {r : Int32 × HS} {st : HS} {l0 : Nat} {l1 : Nat} {l2 : Nat} {l3 : Int32} {k_28 : HS → Nat → Nat → Nat → Int32 → Option (Int32 × HS)} {n0 s0 : Nat} {H : Heap} {locs : List Loc} {ce sl : Nat} {ls : Array Slot} (X : jx p s m args meth c b_x_Law_law 4 (some .boolean) "NoteSheetLaw") (hK : 603 ≤ K) (hq : hC G A s st H locs) (hn : hN ce sl n0 s0 st) (hl : lv_has ls 4 [(0, .ref l0), (1, .ref l1), (2, .ref l2), (3, .int l3)]) (hk_28 : ∀ (st : HS) (l0 : Nat) (l1 : Nat) (l2 : Nat) (l3 : Int32) (H : Heap) (locs : List Loc) (ce sl : Nat) (ls : Array Slot), k_28 st l0 l1 l2 l3 = some r → hC G A s st H locs → hN ce sl n0 s0 st → lv_has ls 4 [(0, .ref l0), (1, .ref l1), (2, .ref l2), (3, .int l3)] → W p l e (rmL K (hNx r.2 - n0) (hNs r.2 - s0)) s m args below meth c H locs ce sl (MQ below (hQc G A (some (.int r.1)) r.2) args s (hNx r.2 - n0) (hNs r.2 - s0) A) (F0 m 28 ls [])) (hm_28 : ∀ (st : HS) (l0 : Nat) (l1 : Nat) (l2 : Nat) (l3 : Int32), k_28 st l0 l1 l2 l3 = some r → hle st r.2) (h : x_Law_law_J332 k_28 st l0 l1 l2 l3 = some r) : W p l e (rmL K (hNx r.2 - n0) (hNs r.2 - s0)) s m args below meth c H locs ce sl (MQ below (hQc G A (some (.int r.1)) r.2) args s (hNx r.2 - n0) (hNs r.2 - s0) A) (F0 m 332 ls []) := by
  obtain ⟨hx, hb, hr, hml, hown, hts, hlocks⟩ := id X
  have hmr : hle st r.2 := n_x_Law_law_J332 hm_28 h
  unfold x_Law_law_J332 at h
  replace h := obi h; obtain ⟨x1, ex1, h⟩ := h
  refine lv_iinc (v := x1) (lv' := [(3, .int x1), (0, .ref l0), (1, .ref l1), (2, .ref l2)]) hx hb d_x_Law_law_332 hl (k := 3) rfl (Option.some.inj ex1) (by decide) rfl (fun ls hl => ?_)
  refine lv_goto (tgt := 28) hx hb d_x_Law_law_335 (by decide) ?_
  exact hk_28 _ _ _ _ _ _ _ _ _ _ h hq hn (lv_sub hl [1, 2, 3, 0] rfl)
theorem w_x_Law_law_J192 {r : Int32 × HS} {st : HS} {l0 : Nat} {l1 : Nat} {l2 : Nat} {l3 : Int32} {w0 : Int64} {k_28 : HS → Nat → Nat → Nat → Int32 → Option (Int32 × HS)} {n0 s0 : Nat} {H : Heap} {locs : List Loc} {ce sl : Nat} {ls : Array Slot} (X : jx p s m args meth c b_x_Law_law 4 (some .boolean) "NoteSheetLaw") (hK : 603 ≤ K) (hq : hC G A s st H locs) (hn : hN ce sl n0 s0 st) (hl : lv_has ls 4 [(0, .ref l0), (1, .ref l1), (2, .ref l2), (3, .int l3)]) (hk_28 : ∀ (st : HS) (l0 : Nat) (l1 : Nat) (l2 : Nat) (l3 : Int32) (H : Heap) (locs : List Loc) (ce sl : Nat) (ls : Array Slot), k_28 st l0 l1 l2 l3 = some r → hC G A s st H locs → hN ce sl n0 s0 st → lv_has ls 4 [(0, .ref l0), (1, .ref l1), (2, .ref l2), (3, .int l3)] → W p l e (rmL K (hNx r.2 - n0) (hNs r.2 - s0)) s m args below meth c H locs ce sl (MQ below (hQc G A (some (.int r.1)) r.2) args s (hNx r.2 - n0) (hNs r.2 - s0) A) (F0 m 28 ls [])) (hm_28 : ∀ (st : HS) (l0 : Nat) (l1 : Nat) (l2 : Nat) (l3 : Int32), k_28 st l0 l1 l2 l3 = some r → hle st r.2) (h : x_Law_law_J192 k_28 st l0 l1 l2 l3 w0 = some r) : W p l e (rmL K (hNx r.2 - n0) (hNs r.2 - s0)) s m args below meth c H locs ce sl (MQ below (hQc G A (some (.int r.1)) r.2) args s (hNx r.2 - n0) (hNs r.2 - s0) A) (F0 m 192 ls [.long w0]) := by
  obtain ⟨hx, hb, hr, hml, hown, hts, hlocks⟩ := id X
  have hmr : hle st r.2 := n_x_Law_law_J192 hm_28 h
  unfold x_Law_law_J192 at h
  refine lv_aload_n hx hb d_x_Law_law_192 rfl (lv_at hl 2 rfl) ?_
  refine lv_aload_n hx hb d_x_Law_law_193 rfl (lv_at hl 0 rfl) ?_
  refine lv_iload_n hx hb d_x_Law_law_194 rfl (lv_at hl 3 rfl) ?_
  refine lv_iconst (v := 1) hx hb d_x_Law_law_195 (by decide) ?_
  refine lv_iadd hx hb d_x_Law_law_196 ?_
  replace h := obi h; obtain ⟨x1, ex1, h⟩ := h
  refine ha_ild X hq ex1 d_x_Law_law_197 ?_
  replace h := obi h; obtain ⟨u2, eu2, h⟩ := h
  replace h := obi h; obtain ⟨q3, eq3, h⟩ := h
  refine hcallV (n := 1) X hq (n_xm_ask eq3).le (c_xm_ask l 5 (Nat.le_refl _) G A eq3) (C := 7) rfl eu2 q_876 q_877 q_878 q_8 q_879 ok_xm_ask rfl (lvl (by omega) (by decide)) hl.1 rfl (Nat.le_of_ble_eq_true rfl) d_x_Law_law_198 (hn.fit hmr) (fun H locs hq => ?_)
  have hn := hn.ke (n_xm_ask eq3)
  have hmr := hmr.ke (n_xm_ask eq3)
  refine W.lcmp hx hb d_x_Law_law_201 ?_
  refine lv_if_eq (tgt := 332) hx hb d_x_Law_law_202 (by decide) (fun c202 => ?_) (fun c202 => ?_)
  · replace h := ifp c202 h
    exact w_x_Law_law_J332 X hK hq hn (lv_sub hl [0, 1, 2, 3] rfl) hk_28 hm_28 h
  · replace h := ifn c202 h
    refine lv_iconst (v := 0) hx hb d_x_Law_law_205 (by decide) ?_
    cases h
    exact hret_z (v := 0) (by decide) X hq (hn.fit hle.rf) d_x_Law_law_206
theorem w_x_Law_law_J126 {r : Int32 × HS} {st : HS} {l0 : Nat} {l1 : Nat} {l2 : Nat} {l3 : Int32} {w0 : Int32} {k_28 : HS → Nat → Nat → Nat → Int32 → Option (Int32 × HS)} {n0 s0 : Nat} {H : Heap} {locs : List Loc} {ce sl : Nat} {ls : Array Slot} (X : jx p s m args meth c b_x_Law_law 4 (some .boolean) "NoteSheetLaw") (hK : 603 ≤ K) (hq : hC G A s st H locs) (hn : hN ce sl n0 s0 st) (hl : lv_has ls 4 [(0, .ref l0), (1, .ref l1), (2, .ref l2), (3, .int l3)]) (hk_28 : ∀ (st : HS) (l0 : Nat) (l1 : Nat) (l2 : Nat) (l3 : Int32) (H : Heap) (locs : List Loc) (ce sl : Nat) (ls : Array Slot), k_28 st l0 l1 l2 l3 = some r → hC G A s st H locs → hN ce sl n0 s0 st → lv_has ls 4 [(0, .ref l0), (1, .ref l1), (2, .ref l2), (3, .int l3)] → W p l e (rmL K (hNx r.2 - n0) (hNs r.2 - s0)) s m args below meth c H locs ce sl (MQ below (hQc G A (some (.int r.1)) r.2) args s (hNx r.2 - n0) (hNs r.2 - s0) A) (F0 m 28 ls [])) (hm_28 : ∀ (st : HS) (l0 : Nat) (l1 : Nat) (l2 : Nat) (l3 : Int32), k_28 st l0 l1 l2 l3 = some r → hle st r.2) (h : x_Law_law_J126 k_28 st l0 l1 l2 l3 w0 = some r) : W p l e (rmL K (hNx r.2 - n0) (hNs r.2 - s0)) s m args below meth c H locs ce sl (MQ below (hQc G A (some (.int r.1)) r.2) args s (hNx r.2 - n0) (hNs r.2 - s0) A) (F0 m 126 ls [.int w0]) := by
  obtain ⟨hx, hb, hr, hml, hown, hts, hlocks⟩ := id X
  have hmr : hle st r.2 := n_x_Law_law_J126 hm_28 h
  unfold x_Law_law_J126 at h
  refine lv_aload_n hx hb d_x_Law_law_126 rfl (lv_at hl 2 rfl) ?_
  refine lv_aload_n hx hb d_x_Law_law_127 rfl (lv_at hl 0 rfl) ?_
  refine lv_iload_n hx hb d_x_Law_law_128 rfl (lv_at hl 3 rfl) ?_
  refine lv_iconst (v := 1) hx hb d_x_Law_law_129 (by decide) ?_
  refine lv_iadd hx hb d_x_Law_law_130 ?_
  replace h := obi h; obtain ⟨x1, ex1, h⟩ := h
  refine ha_ild X hq ex1 d_x_Law_law_131 ?_
  replace h := obi h; obtain ⟨u2, eu2, h⟩ := h
  replace h := obi h; obtain ⟨q3, eq3, h⟩ := h
  refine hcallV (n := 1) X hq (n_xm_define eq3).le (c_xm_define l 5 (Nat.le_refl _) G A eq3) (C := 7) rfl eu2 q_814 q_815 q_816 q_8 q_817 ok_xm_define rfl (lvl (by omega) (by decide)) hl.1 rfl (Nat.le_of_ble_eq_true rfl) d_x_Law_law_132 (hn.fit hmr) (fun H locs hq => ?_)
  have hn := hn.ke (n_xm_define eq3)
  have hmr := hmr.ke (n_xm_define eq3)
  refine lv_icmp_eq (tgt := 332) hx hb d_x_Law_law_135 (by decide) (fun c135 => ?_) (fun c135 => ?_)
  · replace h := ifp c135 h
    exact w_x_Law_law_J332 X hK hq hn (lv_sub hl [0, 1, 2, 3] rfl) hk_28 hm_28 h
  · replace h := ifn c135 h
    refine lv_iconst (v := 0) hx hb d_x_Law_law_138 (by decide) ?_
    cases h
    exact hret_z (v := 0) (by decide) X hq (hn.fit hle.rf) d_x_Law_law_139
theorem w_x_Law_law_J102 {r : Int32 × HS} {st : HS} {l0 : Nat} {l1 : Nat} {l2 : Nat} {l3 : Int32} {w0 : Int32} {k_28 : HS → Nat → Nat → Nat → Int32 → Option (Int32 × HS)} {n0 s0 : Nat} {H : Heap} {locs : List Loc} {ce sl : Nat} {ls : Array Slot} (X : jx p s m args meth c b_x_Law_law 4 (some .boolean) "NoteSheetLaw") (hK : 603 ≤ K) (hq : hC G A s st H locs) (hn : hN ce sl n0 s0 st) (hl : lv_has ls 4 [(0, .ref l0), (1, .ref l1), (2, .ref l2), (3, .int l3)]) (hk_28 : ∀ (st : HS) (l0 : Nat) (l1 : Nat) (l2 : Nat) (l3 : Int32) (H : Heap) (locs : List Loc) (ce sl : Nat) (ls : Array Slot), k_28 st l0 l1 l2 l3 = some r → hC G A s st H locs → hN ce sl n0 s0 st → lv_has ls 4 [(0, .ref l0), (1, .ref l1), (2, .ref l2), (3, .int l3)] → W p l e (rmL K (hNx r.2 - n0) (hNs r.2 - s0)) s m args below meth c H locs ce sl (MQ below (hQc G A (some (.int r.1)) r.2) args s (hNx r.2 - n0) (hNs r.2 - s0) A) (F0 m 28 ls [])) (hm_28 : ∀ (st : HS) (l0 : Nat) (l1 : Nat) (l2 : Nat) (l3 : Int32), k_28 st l0 l1 l2 l3 = some r → hle st r.2) (h : x_Law_law_J102 k_28 st l0 l1 l2 l3 w0 = some r) : W p l e (rmL K (hNx r.2 - n0) (hNs r.2 - s0)) s m args below meth c H locs ce sl (MQ below (hQc G A (some (.int r.1)) r.2) args s (hNx r.2 - n0) (hNs r.2 - s0) A) (F0 m 102 ls [.int w0]) := by
  obtain ⟨hx, hb, hr, hml, hown, hts, hlocks⟩ := id X
  have hmr : hle st r.2 := n_x_Law_law_J102 hm_28 h
  unfold x_Law_law_J102 at h
  refine lv_aload_n hx hb d_x_Law_law_102 rfl (lv_at hl 2 rfl) ?_
  refine lv_aload_n hx hb d_x_Law_law_103 rfl (lv_at hl 0 rfl) ?_
  refine lv_iload_n hx hb d_x_Law_law_104 rfl (lv_at hl 3 rfl) ?_
  refine lv_iconst (v := 1) hx hb d_x_Law_law_105 (by decide) ?_
  refine lv_iadd hx hb d_x_Law_law_106 ?_
  replace h := obi h; obtain ⟨x1, ex1, h⟩ := h
  refine ha_ild X hq ex1 d_x_Law_law_107 ?_
  refine lv_i2c (v := _) hx hb d_x_Law_law_108 rfl ?_
  replace h := obi h; obtain ⟨u2, eu2, h⟩ := h
  replace h := obi h; obtain ⟨q3, eq3, h⟩ := h
  refine hcallV (n := 1) X hq (n_xm_type eq3).le (c_xm_type l 1 (Nat.le_refl _) G A eq3) (C := 7) rfl eu2 q_804 q_805 q_806 q_8 q_807 ok_xm_type rfl (lvl (by omega) (by decide)) hl.1 rfl (Nat.le_of_ble_eq_true rfl) d_x_Law_law_109 (hn.fit hmr) (fun H locs hq => ?_)
  have hn := hn.ke (n_xm_type eq3)
  have hmr := hmr.ke (n_xm_type eq3)
  refine lv_icmp_eq (tgt := 332) hx hb d_x_Law_law_112 (by decide) (fun c112 => ?_) (fun c112 => ?_)
  · replace h := ifp c112 h
    exact w_x_Law_law_J332 X hK hq hn (lv_sub hl [0, 1, 2, 3] rfl) hk_28 hm_28 h
  · replace h := ifn c112 h
    refine lv_iconst (v := 0) hx hb d_x_Law_law_115 (by decide) ?_
    cases h
    exact hret_z (v := 0) (by decide) X hq (hn.fit hle.rf) d_x_Law_law_116
theorem w_x_Law_law_L28 {r : Int32 × HS} {n0 s0 : Nat} (X : jx p s m args meth c b_x_Law_law 4 (some .boolean) "NoteSheetLaw") (hK : 603 ≤ K) : ∀ (n : Nat), ∀ (st : HS) (l0 : Nat) (l1 : Nat) (l2 : Nat) (l3 : Int32) (H : Heap) (locs : List Loc) (ce sl : Nat) (ls : Array Slot), x_Law_law_L28 n st l0 l1 l2 l3 = some r → hC G A s st H locs → hN ce sl n0 s0 st → lv_has ls 4 [(0, .ref l0), (1, .ref l1), (2, .ref l2), (3, .int l3)] → W p l e (rmL K (hNx r.2 - n0) (hNs r.2 - s0)) s m args below meth c H locs ce sl (MQ below (hQc G A (some (.int r.1)) r.2) args s (hNx r.2 - n0) (hNs r.2 - s0) A) (F0 m 28 ls []) := by
  obtain ⟨hx, hb, hr, hml, hown, hts, hlocks⟩ := id X
  intro n
  induction n with
  | zero => intro st l0 l1 l2 l3 H locs ce sl ls h hq hn hl; exact absurd h (by simp [x_Law_law_L28])
  | succ n ih =>
    intro st l0 l1 l2 l3 H locs ce sl ls h hq hn hl
    have hmr : hle st r.2 := n_x_Law_law_L28 (n + 1) _ _ _ _ _ h
    rw [x_Law_law_L28] at h
    refine lv_iload_n hx hb d_x_Law_law_28 rfl (lv_at hl 3 rfl) ?_
    refine lv_aload_n hx hb d_x_Law_law_29 rfl (lv_at hl 0 rfl) ?_
    replace h := obi h; obtain ⟨x1, ex1, h⟩ := h
    refine ha_len X hq ex1 d_x_Law_law_30 ?_
    refine lv_iconst (v := 4) hx hb d_x_Law_law_31 (by decide) ?_
    refine lv_isub hx hb d_x_Law_law_32 ?_
    refine lv_icmp_gt (tgt := 338) hx hb d_x_Law_law_33 (by decide) (fun c33 => ?_) (fun c33 => ?_)
    · replace h := ifp c33 h
      refine lv_iconst (v := 1) hx hb d_x_Law_law_338 (by decide) ?_
      cases h
      exact hret_z (v := 1) (by decide) X hq (hn.fit hle.rf) d_x_Law_law_339
    · replace h := ifn c33 h
      refine lv_aload_n hx hb d_x_Law_law_36 rfl (lv_at hl 0 rfl) ?_
      refine lv_iload_n hx hb d_x_Law_law_37 rfl (lv_at hl 3 rfl) ?_
      replace h := obi h; obtain ⟨x2, ex2, h⟩ := h
      refine ha_ild X hq ex2 d_x_Law_law_38 ?_
      refine lv_bipush (v := 15) hx hb d_x_Law_law_39 (by decide) ?_
      refine lv_iand hx hb d_x_Law_law_41 ?_
      replace h := obi h; obtain ⟨x3, ex3, h⟩ := h
      refine lv_nm (Option.some.inj ex3) ?_
      rcases Decidable.em (x3 = 0) with c42_0 | c42_0
      · replace h := ifp c42_0 h
        have hsw : x3.toInt = 0 := by rw [c42_0]; decide
        refine lv_tableIn (tgt := 92) hx hb d_x_Law_law_42 (by rw [hsw]; decide) (by rw [hsw]; decide) (by rw [hsw]; rfl) (by decide) ?_
        refine lv_aload_n hx hb d_x_Law_law_92 rfl (lv_at hl 1 rfl) ?_
        refine lv_aload_n hx hb d_x_Law_law_93 rfl (lv_at hl 0 rfl) ?_
        refine lv_iload_n hx hb d_x_Law_law_94 rfl (lv_at hl 3 rfl) ?_
        refine lv_iconst (v := 1) hx hb d_x_Law_law_95 (by decide) ?_
        refine lv_iadd hx hb d_x_Law_law_96 ?_
        replace h := obi h; obtain ⟨x4, ex4, h⟩ := h
        refine ha_ild X hq ex4 d_x_Law_law_97 ?_
        refine lv_i2c (v := _) hx hb d_x_Law_law_98 rfl ?_
        replace h := obi h; obtain ⟨u5, eu5, h⟩ := h
        replace h := obi h; obtain ⟨q6, eq6, h⟩ := h
        have hn2 := hn.call (n_x_NS_type eq6)
        have hmr := n_x_Law_law_J102 (n_x_Law_law_L28 n) h
        refine hcallV (n := 1) X hq (n_x_NS_type eq6) (c_x_NS_type l 6 (Nat.le_refl _) G A eq6) (C := 0) rfl eu5 q_170 q_171 q_172 q_1 q_173 ok_x_NS_type rfl (lvl (by omega) (by decide)) hl.1 rfl (Nat.le_of_ble_eq_true rfl) d_x_Law_law_99 (hn2.fit hmr) (fun H locs hq => ?_)
        have hn := hn2
        exact w_x_Law_law_J102 X hK hq hn (lv_sub hl [0, 1, 2, 3] rfl) ih (n_x_Law_law_L28 n) h
      replace h := ifn c42_0 h
      have ec42_0 := i32_ne c42_0
      rcases Decidable.em (x3 = 1) with c42_1 | c42_1
      · replace h := ifp c42_1 h
        have hsw : x3.toInt = 1 := by rw [c42_1]; decide
        refine lv_tableIn (tgt := 117) hx hb d_x_Law_law_42 (by rw [hsw]; decide) (by rw [hsw]; decide) (by rw [hsw]; rfl) (by decide) ?_
        refine lv_aload_n hx hb d_x_Law_law_117 rfl (lv_at hl 1 rfl) ?_
        refine lv_aload_n hx hb d_x_Law_law_118 rfl (lv_at hl 0 rfl) ?_
        refine lv_iload_n hx hb d_x_Law_law_119 rfl (lv_at hl 3 rfl) ?_
        refine lv_iconst (v := 1) hx hb d_x_Law_law_120 (by decide) ?_
        refine lv_iadd hx hb d_x_Law_law_121 ?_
        replace h := obi h; obtain ⟨x7, ex7, h⟩ := h
        refine ha_ild X hq ex7 d_x_Law_law_122 ?_
        replace h := obi h; obtain ⟨u8, eu8, h⟩ := h
        replace h := obi h; obtain ⟨q9, eq9, h⟩ := h
        have hn2 := hn.call (n_x_NS_define eq9)
        have hmr := n_x_Law_law_J126 (n_x_Law_law_L28 n) h
        refine hcallV (n := 1) X hq (n_x_NS_define eq9) (c_x_NS_define l 602 (Nat.le_refl _) G A eq9) (C := 0) rfl eu8 q_347 q_348 q_349 q_1 q_350 ok_x_NS_define rfl (lvl (by omega) (by decide)) hl.1 rfl (Nat.le_of_ble_eq_true rfl) d_x_Law_law_123 (hn2.fit hmr) (fun H locs hq => ?_)
        have hn := hn2
        exact w_x_Law_law_J126 X hK hq hn (lv_sub hl [0, 1, 2, 3] rfl) ih (n_x_Law_law_L28 n) h
      replace h := ifn c42_1 h
      have ec42_1 := i32_ne c42_1
      rcases Decidable.em (x3 = 2) with c42_2 | c42_2
      · replace h := ifp c42_2 h
        have hsw : x3.toInt = 2 := by rw [c42_2]; decide
        refine lv_tableIn (tgt := 140) hx hb d_x_Law_law_42 (by rw [hsw]; decide) (by rw [hsw]; decide) (by rw [hsw]; rfl) (by decide) ?_
        refine lv_aload_n hx hb d_x_Law_law_140 rfl (lv_at hl 1 rfl) ?_
        refine lv_aload_n hx hb d_x_Law_law_141 rfl (lv_at hl 0 rfl) ?_
        refine lv_iload_n hx hb d_x_Law_law_142 rfl (lv_at hl 3 rfl) ?_
        refine lv_iconst (v := 1) hx hb d_x_Law_law_143 (by decide) ?_
        refine lv_iadd hx hb d_x_Law_law_144 ?_
        replace h := obi h; obtain ⟨x10, ex10, h⟩ := h
        refine ha_ild X hq ex10 d_x_Law_law_145 ?_
        refine lv_aload_n hx hb d_x_Law_law_146 rfl (lv_at hl 0 rfl) ?_
        refine lv_iload_n hx hb d_x_Law_law_147 rfl (lv_at hl 3 rfl) ?_
        refine lv_iconst (v := 2) hx hb d_x_Law_law_148 (by decide) ?_
        refine lv_iadd hx hb d_x_Law_law_149 ?_
        replace h := obi h; obtain ⟨x11, ex11, h⟩ := h
        refine ha_ild X hq ex11 d_x_Law_law_150 ?_
        refine lv_aload_n hx hb d_x_Law_law_151 rfl (lv_at hl 0 rfl) ?_
        refine lv_iload_n hx hb d_x_Law_law_152 rfl (lv_at hl 3 rfl) ?_
        refine lv_iconst (v := 3) hx hb d_x_Law_law_153 (by decide) ?_
        refine lv_iadd hx hb d_x_Law_law_154 ?_
        replace h := obi h; obtain ⟨x12, ex12, h⟩ := h
        refine ha_ild X hq ex12 d_x_Law_law_155 ?_
        replace h := obi h; obtain ⟨u13, eu13, h⟩ := h
        replace h := obi h; obtain ⟨q14, eq14, h⟩ := h
        refine hcallV (n := 3) X hq (n_x_NS_set eq14).le (c_x_NS_set l 1 (Nat.le_refl _) G A eq14) (C := 0) rfl eu13 q_539 q_540 q_541 q_1 q_542 ok_x_NS_set rfl (lvl (by omega) (by decide)) hl.1 rfl (Nat.le_of_ble_eq_true rfl) d_x_Law_law_156 (hn.fit hmr) (fun H locs hq => ?_)
        have hn := hn.ke (n_x_NS_set eq14)
        have hmr := hmr.ke (n_x_NS_set eq14)
        refine lv_aload_n hx hb d_x_Law_law_159 rfl (lv_at hl 2 rfl) ?_
        refine lv_aload_n hx hb d_x_Law_law_160 rfl (lv_at hl 0 rfl) ?_
        refine lv_iload_n hx hb d_x_Law_law_161 rfl (lv_at hl 3 rfl) ?_
        refine lv_iconst (v := 1) hx hb d_x_Law_law_162 (by decide) ?_
        refine lv_iadd hx hb d_x_Law_law_163 ?_
        replace h := obi h; obtain ⟨x15, ex15, h⟩ := h
        refine ha_ild X hq ex15 d_x_Law_law_164 ?_
        refine lv_aload_n hx hb d_x_Law_law_165 rfl (lv_at hl 0 rfl) ?_
        refine lv_iload_n hx hb d_x_Law_law_166 rfl (lv_at hl 3 rfl) ?_
        refine lv_iconst (v := 2) hx hb d_x_Law_law_167 (by decide) ?_
        refine lv_iadd hx hb d_x_Law_law_168 ?_
        replace h := obi h; obtain ⟨x16, ex16, h⟩ := h
        refine ha_ild X hq ex16 d_x_Law_law_169 ?_
        refine lv_aload_n hx hb d_x_Law_law_170 rfl (lv_at hl 0 rfl) ?_
        refine lv_iload_n hx hb d_x_Law_law_171 rfl (lv_at hl 3 rfl) ?_
        refine lv_iconst (v := 3) hx hb d_x_Law_law_172 (by decide) ?_
        refine lv_iadd hx hb d_x_Law_law_173 ?_
        replace h := obi h; obtain ⟨x17, ex17, h⟩ := h
        refine ha_ild X hq ex17 d_x_Law_law_174 ?_
        replace h := obi h; obtain ⟨u18, eu18, h⟩ := h
        replace h := obi h; obtain ⟨q19, eq19, h⟩ := h
        refine hcallV (n := 3) X hq (n_xm_set eq19).le (c_xm_set l 1 (Nat.le_refl _) G A eq19) (C := 7) rfl eu18 q_872 q_873 q_874 q_8 q_875 ok_xm_set rfl (lvl (by omega) (by decide)) hl.1 rfl (Nat.le_of_ble_eq_true rfl) d_x_Law_law_175 (hn.fit hmr) (fun H locs hq => ?_)
        have hn := hn.ke (n_xm_set eq19)
        have hmr := hmr.ke (n_xm_set eq19)
        refine lv_icmp_eq (tgt := 332) hx hb d_x_Law_law_178 (by decide) (fun c178 => ?_) (fun c178 => ?_)
        · replace h := ifp c178 h
          exact w_x_Law_law_J332 X hK hq hn (lv_sub hl [0, 1, 2, 3] rfl) ih (n_x_Law_law_L28 n) h
        · replace h := ifn c178 h
          refine lv_iconst (v := 0) hx hb d_x_Law_law_181 (by decide) ?_
          cases h
          exact hret_z (v := 0) (by decide) X hq (hn.fit hle.rf) d_x_Law_law_182
      replace h := ifn c42_2 h
      have ec42_2 := i32_ne c42_2
      rcases Decidable.em (x3 = 3) with c42_3 | c42_3
      · replace h := ifp c42_3 h
        have hsw : x3.toInt = 3 := by rw [c42_3]; decide
        refine lv_tableIn (tgt := 183) hx hb d_x_Law_law_42 (by rw [hsw]; decide) (by rw [hsw]; decide) (by rw [hsw]; rfl) (by decide) ?_
        refine lv_aload_n hx hb d_x_Law_law_183 rfl (lv_at hl 1 rfl) ?_
        refine lv_aload_n hx hb d_x_Law_law_184 rfl (lv_at hl 0 rfl) ?_
        refine lv_iload_n hx hb d_x_Law_law_185 rfl (lv_at hl 3 rfl) ?_
        refine lv_iconst (v := 1) hx hb d_x_Law_law_186 (by decide) ?_
        refine lv_iadd hx hb d_x_Law_law_187 ?_
        replace h := obi h; obtain ⟨x20, ex20, h⟩ := h
        refine ha_ild X hq ex20 d_x_Law_law_188 ?_
        replace h := obi h; obtain ⟨u21, eu21, h⟩ := h
        replace h := obi h; obtain ⟨q22, eq22, h⟩ := h
        have hn2 := hn.call (n_x_NS_ask eq22)
        have hmr := n_x_Law_law_J192 (n_x_Law_law_L28 n) h
        refine hcallV (n := 1) X hq (n_x_NS_ask eq22) (c_x_NS_ask l 301 (Nat.le_refl _) G A eq22) (C := 0) rfl eu21 q_543 q_544 q_545 q_1 q_546 ok_x_NS_ask rfl (lvl (by omega) (by decide)) hl.1 rfl (Nat.le_of_ble_eq_true rfl) d_x_Law_law_189 (hn2.fit hmr) (fun H locs hq => ?_)
        have hn := hn2
        exact w_x_Law_law_J192 X hK hq hn (lv_sub hl [0, 1, 2, 3] rfl) ih (n_x_Law_law_L28 n) h
      replace h := ifn c42_3 h
      have ec42_3 := i32_ne c42_3
      rcases Decidable.em (x3 = 4) with c42_4 | c42_4
      · replace h := ifp c42_4 h
        have hsw : x3.toInt = 4 := by rw [c42_4]; decide
        refine lv_tableIn (tgt := 207) hx hb d_x_Law_law_42 (by rw [hsw]; decide) (by rw [hsw]; decide) (by rw [hsw]; rfl) (by decide) ?_
        refine lv_aload_n hx hb d_x_Law_law_207 rfl (lv_at hl 1 rfl) ?_
        replace h := obi h; obtain ⟨u23, eu23, h⟩ := h
        replace h := obi h; obtain ⟨x24, ex24, h⟩ := h
        refine hcallV (st' := st) (n := 0) X hq hle.rf (c_x_NS_revision l 0 (Nat.le_refl _) G A ex24) (C := 0) rfl eu23 q_644 q_645 q_646 q_1 q_647 ok_x_NS_revision rfl (lvl (by omega) (by decide)) hl.1 rfl (Nat.le_of_ble_eq_true rfl) d_x_Law_law_208 (hn.fit hmr) (fun H locs hq => ?_)
        refine lv_aload_n hx hb d_x_Law_law_211 rfl (lv_at hl 2 rfl) ?_
        replace h := obi h; obtain ⟨u25, eu25, h⟩ := h
        replace h := obi h; obtain ⟨x26, ex26, h⟩ := h
        refine hcallV (st' := st) (n := 0) X hq hle.rf (c_xm_revision l 0 (Nat.le_refl _) G A ex26) (C := 7) rfl eu25 q_950 q_951 q_952 q_8 q_953 ok_xm_revision rfl (lvl (by omega) (by decide)) hl.1 rfl (Nat.le_of_ble_eq_true rfl) d_x_Law_law_212 (hn.fit hmr) (fun H locs hq => ?_)
        refine lv_icmp_eq (tgt := 332) hx hb d_x_Law_law_215 (by decide) (fun c215 => ?_) (fun c215 => ?_)
        · replace h := ifp c215 h
          exact w_x_Law_law_J332 X hK hq hn (lv_sub hl [0, 1, 2, 3] rfl) ih (n_x_Law_law_L28 n) h
        · replace h := ifn c215 h
          refine lv_iconst (v := 0) hx hb d_x_Law_law_218 (by decide) ?_
          cases h
          exact hret_z (v := 0) (by decide) X hq (hn.fit hle.rf) d_x_Law_law_219
      replace h := ifn c42_4 h
      have ec42_4 := i32_ne c42_4
      rcases Decidable.em (x3 = 5) with c42_5 | c42_5
      · replace h := ifp c42_5 h
        have hsw : x3.toInt = 5 := by rw [c42_5]; decide
        refine lv_tableIn (tgt := 220) hx hb d_x_Law_law_42 (by rw [hsw]; decide) (by rw [hsw]; decide) (by rw [hsw]; rfl) (by decide) ?_
        refine lv_aload_n hx hb d_x_Law_law_220 rfl (lv_at hl 1 rfl) ?_
        refine lv_aload_n hx hb d_x_Law_law_221 rfl (lv_at hl 0 rfl) ?_
        refine lv_iload_n hx hb d_x_Law_law_222 rfl (lv_at hl 3 rfl) ?_
        refine lv_iconst (v := 1) hx hb d_x_Law_law_223 (by decide) ?_
        refine lv_iadd hx hb d_x_Law_law_224 ?_
        replace h := obi h; obtain ⟨x27, ex27, h⟩ := h
        refine ha_ild X hq ex27 d_x_Law_law_225 ?_
        replace h := obi h; obtain ⟨u28, eu28, h⟩ := h
        replace h := obi h; obtain ⟨x29, ex29, h⟩ := h
        refine hcallV (st' := st) (n := 1) X hq hle.rf (c_x_NS_changed l 0 (Nat.le_refl _) G A ex29) (C := 0) rfl eu28 q_648 q_649 q_650 q_1 q_651 ok_x_NS_changed rfl (lvl (by omega) (by decide)) hl.1 rfl (Nat.le_of_ble_eq_true rfl) d_x_Law_law_226 (hn.fit hmr) (fun H locs hq => ?_)
        refine lv_aload_n hx hb d_x_Law_law_229 rfl (lv_at hl 2 rfl) ?_
        refine lv_aload_n hx hb d_x_Law_law_230 rfl (lv_at hl 0 rfl) ?_
        refine lv_iload_n hx hb d_x_Law_law_231 rfl (lv_at hl 3 rfl) ?_
        refine lv_iconst (v := 1) hx hb d_x_Law_law_232 (by decide) ?_
        refine lv_iadd hx hb d_x_Law_law_233 ?_
        replace h := obi h; obtain ⟨x30, ex30, h⟩ := h
        refine ha_ild X hq ex30 d_x_Law_law_234 ?_
        replace h := obi h; obtain ⟨u31, eu31, h⟩ := h
        replace h := obi h; obtain ⟨x32, ex32, h⟩ := h
        refine hcallV (st' := st) (n := 1) X hq hle.rf (c_xm_changed l 0 (Nat.le_refl _) G A ex32) (C := 7) rfl eu31 q_954 q_955 q_956 q_8 q_957 ok_xm_changed rfl (lvl (by omega) (by decide)) hl.1 rfl (Nat.le_of_ble_eq_true rfl) d_x_Law_law_235 (hn.fit hmr) (fun H locs hq => ?_)
        refine lv_icmp_eq (tgt := 332) hx hb d_x_Law_law_238 (by decide) (fun c238 => ?_) (fun c238 => ?_)
        · replace h := ifp c238 h
          exact w_x_Law_law_J332 X hK hq hn (lv_sub hl [0, 1, 2, 3] rfl) ih (n_x_Law_law_L28 n) h
        · replace h := ifn c238 h
          refine lv_iconst (v := 0) hx hb d_x_Law_law_241 (by decide) ?_
          cases h
          exact hret_z (v := 0) (by decide) X hq (hn.fit hle.rf) d_x_Law_law_242
      replace h := ifn c42_5 h
      have ec42_5 := i32_ne c42_5
      rcases Decidable.em (x3 = 6) with c42_6 | c42_6
      · replace h := ifp c42_6 h
        have hsw : x3.toInt = 6 := by rw [c42_6]; decide
        refine lv_tableIn (tgt := 243) hx hb d_x_Law_law_42 (by rw [hsw]; decide) (by rw [hsw]; decide) (by rw [hsw]; rfl) (by decide) ?_
        refine lv_aload_n hx hb d_x_Law_law_243 rfl (lv_at hl 1 rfl) ?_
        refine lv_aload_n hx hb d_x_Law_law_244 rfl (lv_at hl 0 rfl) ?_
        refine lv_iload_n hx hb d_x_Law_law_245 rfl (lv_at hl 3 rfl) ?_
        refine lv_iconst (v := 1) hx hb d_x_Law_law_246 (by decide) ?_
        refine lv_iadd hx hb d_x_Law_law_247 ?_
        replace h := obi h; obtain ⟨x33, ex33, h⟩ := h
        refine ha_ild X hq ex33 d_x_Law_law_248 ?_
        refine lv_aload_n hx hb d_x_Law_law_249 rfl (lv_at hl 0 rfl) ?_
        refine lv_iload_n hx hb d_x_Law_law_250 rfl (lv_at hl 3 rfl) ?_
        refine lv_iconst (v := 2) hx hb d_x_Law_law_251 (by decide) ?_
        refine lv_iadd hx hb d_x_Law_law_252 ?_
        replace h := obi h; obtain ⟨x34, ex34, h⟩ := h
        refine ha_ild X hq ex34 d_x_Law_law_253 ?_
        replace h := obi h; obtain ⟨u35, eu35, h⟩ := h
        replace h := obi h; obtain ⟨x36, ex36, h⟩ := h
        refine hcallV (st' := st) (n := 2) X hq hle.rf (c_x_NS_note l 1 (Nat.le_refl _) G A ex36) (C := 0) rfl eu35 q_652 q_653 q_654 q_1 q_655 ok_x_NS_note rfl (lvl (by omega) (by decide)) hl.1 rfl (Nat.le_of_ble_eq_true rfl) d_x_Law_law_254 (hn.fit hmr) (fun H locs hq => ?_)
        refine lv_aload_n hx hb d_x_Law_law_257 rfl (lv_at hl 2 rfl) ?_
        refine lv_aload_n hx hb d_x_Law_law_258 rfl (lv_at hl 0 rfl) ?_
        refine lv_iload_n hx hb d_x_Law_law_259 rfl (lv_at hl 3 rfl) ?_
        refine lv_iconst (v := 1) hx hb d_x_Law_law_260 (by decide) ?_
        refine lv_iadd hx hb d_x_Law_law_261 ?_
        replace h := obi h; obtain ⟨x37, ex37, h⟩ := h
        refine ha_ild X hq ex37 d_x_Law_law_262 ?_
        refine lv_aload_n hx hb d_x_Law_law_263 rfl (lv_at hl 0 rfl) ?_
        refine lv_iload_n hx hb d_x_Law_law_264 rfl (lv_at hl 3 rfl) ?_
        refine lv_iconst (v := 2) hx hb d_x_Law_law_265 (by decide) ?_
        refine lv_iadd hx hb d_x_Law_law_266 ?_
        replace h := obi h; obtain ⟨x38, ex38, h⟩ := h
        refine ha_ild X hq ex38 d_x_Law_law_267 ?_
        replace h := obi h; obtain ⟨u39, eu39, h⟩ := h
        replace h := obi h; obtain ⟨x40, ex40, h⟩ := h
        refine hcallV (st' := st) (n := 2) X hq hle.rf (c_xm_note l 1 (Nat.le_refl _) G A ex40) (C := 7) rfl eu39 q_958 q_959 q_960 q_8 q_961 ok_xm_note rfl (lvl (by omega) (by decide)) hl.1 rfl (Nat.le_of_ble_eq_true rfl) d_x_Law_law_268 (hn.fit hmr) (fun H locs hq => ?_)
        refine lv_icmp_eq (tgt := 332) hx hb d_x_Law_law_271 (by decide) (fun c271 => ?_) (fun c271 => ?_)
        · replace h := ifp c271 h
          exact w_x_Law_law_J332 X hK hq hn (lv_sub hl [0, 1, 2, 3] rfl) ih (n_x_Law_law_L28 n) h
        · replace h := ifn c271 h
          refine lv_iconst (v := 0) hx hb d_x_Law_law_274 (by decide) ?_
          cases h
          exact hret_z (v := 0) (by decide) X hq (hn.fit hle.rf) d_x_Law_law_275
      replace h := ifn c42_6 h
      have ec42_6 := i32_ne c42_6
      rcases Decidable.em (x3 = 7) with c42_7 | c42_7
      · replace h := ifp c42_7 h
        have hsw : x3.toInt = 7 := by rw [c42_7]; decide
        refine lv_tableIn (tgt := 276) hx hb d_x_Law_law_42 (by rw [hsw]; decide) (by rw [hsw]; decide) (by rw [hsw]; rfl) (by decide) ?_
        refine lv_aload_n hx hb d_x_Law_law_276 rfl (lv_at hl 1 rfl) ?_
        refine lv_aload_n hx hb d_x_Law_law_277 rfl (lv_at hl 0 rfl) ?_
        refine lv_iload_n hx hb d_x_Law_law_278 rfl (lv_at hl 3 rfl) ?_
        refine lv_iconst (v := 1) hx hb d_x_Law_law_279 (by decide) ?_
        refine lv_iadd hx hb d_x_Law_law_280 ?_
        replace h := obi h; obtain ⟨x41, ex41, h⟩ := h
        refine ha_ild X hq ex41 d_x_Law_law_281 ?_
        refine lv_aload_n hx hb d_x_Law_law_282 rfl (lv_at hl 0 rfl) ?_
        refine lv_iload_n hx hb d_x_Law_law_283 rfl (lv_at hl 3 rfl) ?_
        refine lv_iconst (v := 2) hx hb d_x_Law_law_284 (by decide) ?_
        refine lv_iadd hx hb d_x_Law_law_285 ?_
        replace h := obi h; obtain ⟨x42, ex42, h⟩ := h
        refine ha_ild X hq ex42 d_x_Law_law_286 ?_
        replace h := obi h; obtain ⟨u43, eu43, h⟩ := h
        replace h := obi h; obtain ⟨x44, ex44, h⟩ := h
        refine hcallV (st' := st) (n := 2) X hq hle.rf (c_x_NS_read l 1 (Nat.le_refl _) G A ex44) (C := 0) rfl eu43 q_656 q_657 q_658 q_1 q_659 ok_x_NS_read rfl (lvl (by omega) (by decide)) hl.1 rfl (Nat.le_of_ble_eq_true rfl) d_x_Law_law_287 (hn.fit hmr) (fun H locs hq => ?_)
        refine lv_aload_n hx hb d_x_Law_law_290 rfl (lv_at hl 2 rfl) ?_
        refine lv_aload_n hx hb d_x_Law_law_291 rfl (lv_at hl 0 rfl) ?_
        refine lv_iload_n hx hb d_x_Law_law_292 rfl (lv_at hl 3 rfl) ?_
        refine lv_iconst (v := 1) hx hb d_x_Law_law_293 (by decide) ?_
        refine lv_iadd hx hb d_x_Law_law_294 ?_
        replace h := obi h; obtain ⟨x45, ex45, h⟩ := h
        refine ha_ild X hq ex45 d_x_Law_law_295 ?_
        refine lv_aload_n hx hb d_x_Law_law_296 rfl (lv_at hl 0 rfl) ?_
        refine lv_iload_n hx hb d_x_Law_law_297 rfl (lv_at hl 3 rfl) ?_
        refine lv_iconst (v := 2) hx hb d_x_Law_law_298 (by decide) ?_
        refine lv_iadd hx hb d_x_Law_law_299 ?_
        replace h := obi h; obtain ⟨x46, ex46, h⟩ := h
        refine ha_ild X hq ex46 d_x_Law_law_300 ?_
        replace h := obi h; obtain ⟨u47, eu47, h⟩ := h
        replace h := obi h; obtain ⟨x48, ex48, h⟩ := h
        refine hcallV (st' := st) (n := 2) X hq hle.rf (c_xm_read l 1 (Nat.le_refl _) G A ex48) (C := 7) rfl eu47 q_962 q_963 q_964 q_8 q_965 ok_xm_read rfl (lvl (by omega) (by decide)) hl.1 rfl (Nat.le_of_ble_eq_true rfl) d_x_Law_law_301 (hn.fit hmr) (fun H locs hq => ?_)
        refine lv_icmp_eq (tgt := 332) hx hb d_x_Law_law_304 (by decide) (fun c304 => ?_) (fun c304 => ?_)
        · replace h := ifp c304 h
          exact w_x_Law_law_J332 X hK hq hn (lv_sub hl [0, 1, 2, 3] rfl) ih (n_x_Law_law_L28 n) h
        · replace h := ifn c304 h
          refine lv_iconst (v := 0) hx hb d_x_Law_law_307 (by decide) ?_
          cases h
          exact hret_z (v := 0) (by decide) X hq (hn.fit hle.rf) d_x_Law_law_308
      replace h := ifn c42_7 h
      have ec42_7 := i32_ne c42_7
      rcases Decidable.em (x3 = 8) with c42_8 | c42_8
      · replace h := ifp c42_8 h
        have hsw : x3.toInt = 8 := by rw [c42_8]; decide
        refine lv_tableIn (tgt := 309) hx hb d_x_Law_law_42 (by rw [hsw]; decide) (by rw [hsw]; decide) (by rw [hsw]; rfl) (by decide) ?_
        refine lv_aload_n hx hb d_x_Law_law_309 rfl (lv_at hl 1 rfl) ?_
        refine lv_aload_n hx hb d_x_Law_law_310 rfl (lv_at hl 0 rfl) ?_
        refine lv_iload_n hx hb d_x_Law_law_311 rfl (lv_at hl 3 rfl) ?_
        refine lv_iconst (v := 1) hx hb d_x_Law_law_312 (by decide) ?_
        refine lv_iadd hx hb d_x_Law_law_313 ?_
        replace h := obi h; obtain ⟨x49, ex49, h⟩ := h
        refine ha_ild X hq ex49 d_x_Law_law_314 ?_
        replace h := obi h; obtain ⟨u50, eu50, h⟩ := h
        replace h := obi h; obtain ⟨x51, ex51, h⟩ := h
        refine hcallV (st' := st) (n := 1) X hq hle.rf (c_x_NS_count l 1 (Nat.le_refl _) G A ex51) (C := 0) rfl eu50 q_660 q_661 q_662 q_1 q_663 ok_x_NS_count rfl (lvl (by omega) (by decide)) hl.1 rfl (Nat.le_of_ble_eq_true rfl) d_x_Law_law_315 (hn.fit hmr) (fun H locs hq => ?_)
        refine lv_aload_n hx hb d_x_Law_law_318 rfl (lv_at hl 2 rfl) ?_
        refine lv_aload_n hx hb d_x_Law_law_319 rfl (lv_at hl 0 rfl) ?_
        refine lv_iload_n hx hb d_x_Law_law_320 rfl (lv_at hl 3 rfl) ?_
        refine lv_iconst (v := 1) hx hb d_x_Law_law_321 (by decide) ?_
        refine lv_iadd hx hb d_x_Law_law_322 ?_
        replace h := obi h; obtain ⟨x52, ex52, h⟩ := h
        refine ha_ild X hq ex52 d_x_Law_law_323 ?_
        replace h := obi h; obtain ⟨u53, eu53, h⟩ := h
        replace h := obi h; obtain ⟨x54, ex54, h⟩ := h
        refine hcallV (st' := st) (n := 1) X hq hle.rf (c_xm_count l 1 (Nat.le_refl _) G A ex54) (C := 7) rfl eu53 q_966 q_967 q_968 q_8 q_969 ok_xm_count rfl (lvl (by omega) (by decide)) hl.1 rfl (Nat.le_of_ble_eq_true rfl) d_x_Law_law_324 (hn.fit hmr) (fun H locs hq => ?_)
        refine lv_icmp_eq (tgt := 332) hx hb d_x_Law_law_327 (by decide) (fun c327 => ?_) (fun c327 => ?_)
        · replace h := ifp c327 h
          exact w_x_Law_law_J332 X hK hq hn (lv_sub hl [0, 1, 2, 3] rfl) ih (n_x_Law_law_L28 n) h
        · replace h := ifn c327 h
          refine lv_iconst (v := 0) hx hb d_x_Law_law_330 (by decide) ?_
          cases h
          exact hret_z (v := 0) (by decide) X hq (hn.fit hle.rf) d_x_Law_law_331
      replace h := ifn c42_8 h
      have ec42_8 := i32_ne c42_8
      rw [show (0 : Int32).toInt = 0 by decide] at ec42_0
      rw [show (1 : Int32).toInt = 1 by decide] at ec42_1
      rw [show (2 : Int32).toInt = 2 by decide] at ec42_2
      rw [show (3 : Int32).toInt = 3 by decide] at ec42_3
      rw [show (4 : Int32).toInt = 4 by decide] at ec42_4
      rw [show (5 : Int32).toInt = 5 by decide] at ec42_5
      rw [show (6 : Int32).toInt = 6 by decide] at ec42_6
      rw [show (7 : Int32).toInt = 7 by decide] at ec42_7
      rw [show (8 : Int32).toInt = 8 by decide] at ec42_8
      refine lv_tableOut (tgt := 332) hx hb d_x_Law_law_42 (by omega) (by decide) ?_
      exact w_x_Law_law_J332 X hK hq hn (lv_sub hl [0, 1, 2, 3] rfl) ih (n_x_Law_law_L28 n) h
theorem w_x_Law_law_J25 {r : Int32 × HS} {st : HS} {l0 : Nat} {l1 : Nat} {w0 : Nat} {n0 s0 : Nat} {H : Heap} {locs : List Loc} {ce sl : Nat} {ls : Array Slot} (X : jx p s m args meth c b_x_Law_law 4 (some .boolean) "NoteSheetLaw") (hK : 603 ≤ K) (hq : hC G A s st H locs) (hn : hN ce sl n0 s0 st) (hl : lv_has ls 4 [(0, .ref l0), (1, .ref l1)]) (h : x_Law_law_J25 st l0 l1 w0 = some r) : W p l e (rmL K (hNx r.2 - n0) (hNs r.2 - s0)) s m args below meth c H locs ce sl (MQ below (hQc G A (some (.int r.1)) r.2) args s (hNx r.2 - n0) (hNs r.2 - s0) A) (F0 m 25 ls [.ref w0]) := by
  obtain ⟨hx, hb, hr, hml, hown, hts, hlocks⟩ := id X
  have hmr : hle st r.2 := n_x_Law_law_J25 h
  unfold x_Law_law_J25 at h
  refine lv_astore_n (lv' := [(2, .ref w0), (0, .ref l0), (1, .ref l1)]) hx hb d_x_Law_law_25 rfl hl (by decide) rfl (fun ls hl => ?_)
  refine lv_iconst (v := 1) hx hb d_x_Law_law_26 (by decide) ?_
  refine lv_istore_n (lv' := [(3, .int 1), (2, .ref w0), (0, .ref l0), (1, .ref l1)]) hx hb d_x_Law_law_27 rfl hl (by decide) rfl (fun ls hl => ?_)
  exact w_x_Law_law_L28 X hK 1000 _ _ _ _ _ _ _ _ _ _ h hq hn (lv_sub hl [2, 3, 1, 0] rfl)
theorem w_x_Law_law_J16 {r : Int32 × HS} {st : HS} {l0 : Nat} {l1 : Nat} {w0 : Nat} {n0 s0 : Nat} {H : Heap} {locs : List Loc} {ce sl : Nat} {ls : Array Slot} (X : jx p s m args meth c b_x_Law_law 4 (some .boolean) "NoteSheetLaw") (hK : 603 ≤ K) (hq : hC G A s st H locs) (hn : hN ce sl n0 s0 st) (hl : lv_has ls 4 [(0, .ref l0), (1, .ref l1)]) (h : x_Law_law_J16 st l0 l1 w0 = some r) : W p l e (rmL K (hNx r.2 - n0) (hNs r.2 - s0)) s m args below meth c H locs ce sl (MQ below (hQc G A (some (.int r.1)) r.2) args s (hNx r.2 - n0) (hNs r.2 - s0) A) (F0 m 16 ls [.ref w0]) := by
  obtain ⟨hx, hb, hr, hml, hown, hts, hlocks⟩ := id X
  have hmr : hle st r.2 := n_x_Law_law_J16 h
  unfold x_Law_law_J16 at h
  refine lv_dup hx hb d_x_Law_law_16 rfl ?_
  refine lv_aload_n hx hb d_x_Law_law_17 rfl (lv_at hl 0 rfl) ?_
  refine lv_iconst (v := 0) hx hb d_x_Law_law_18 (by decide) ?_
  replace h := obi h; obtain ⟨x1, ex1, h⟩ := h
  refine hcallS (st' := st) (n := 2) X hq hle.rf (c_x_Law_cell l 0 (Nat.le_refl _) G A ex1) q_664 q_665 q_0 q_666 ok_x_Law_cell rfl (lvl (by omega) (by decide)) hl.1 rfl (Nat.le_of_ble_eq_true rfl) d_x_Law_law_19 (hn.fit hmr) (fun H locs hq => ?_)
  replace h := obi h; obtain ⟨st2, est2, h⟩ := h
  have hn2 := hn.call (n_x_Mod_init est2)
  have hmr := n_x_Law_law_J25 h
  refine hcallI (n := 1) X hq (n_x_Mod_init est2) (c_x_Mod_init l 1 (Nat.le_refl _) G A est2) q_669 q_670 q_8 q_671 ok_x_Mod_init rfl rfl (lvl (by omega) (by decide)) hl.1 rfl (Nat.le_of_ble_eq_true rfl) d_x_Law_law_22 (hn2.fit hmr) (fun H locs hq => ?_)
  have hn := hn2
  exact w_x_Law_law_J25 X hK hq hn (lv_sub hl [0, 1] rfl) h
theorem w_x_Law_law_J12 {r : Int32 × HS} {st : HS} {l0 : Nat} {w0 : Nat} {n0 s0 : Nat} {H : Heap} {locs : List Loc} {ce sl : Nat} {ls : Array Slot} (X : jx p s m args meth c b_x_Law_law 4 (some .boolean) "NoteSheetLaw") (hK : 603 ≤ K) (hq : hC G A s st H locs) (hn : hN ce sl n0 s0 st) (hl : lv_has ls 4 [(0, .ref l0)]) (h : x_Law_law_J12 st l0 w0 = some r) : W p l e (rmL K (hNx r.2 - n0) (hNs r.2 - s0)) s m args below meth c H locs ce sl (MQ below (hQc G A (some (.int r.1)) r.2) args s (hNx r.2 - n0) (hNs r.2 - s0) A) (F0 m 12 ls [.ref w0]) := by
  obtain ⟨hx, hb, hr, hml, hown, hts, hlocks⟩ := id X
  have hmr : hle st r.2 := n_x_Law_law_J12 h
  unfold x_Law_law_J12 at h
  refine lv_astore_n (lv' := [(1, .ref w0), (0, .ref l0)]) hx hb d_x_Law_law_12 rfl hl (by decide) rfl (fun ls hl => ?_)
  replace h := obi h; obtain ⟨ad1, ead1, h⟩ := h
  replace h := obi h; obtain ⟨st2, est2, h⟩ := h
  have hn2 := hn.new est2
  have hmr := n_x_Law_law_J16 h
  refine h_new X hq 7 rfl est2 q_667 q_668 q_8 (hn2.fit hmr) d_x_Law_law_13 (fun H hq => ?_)
  have hn := hn2
  refine lv_nma (Option.some.inj ead1) ?_
  exact w_x_Law_law_J16 X hK hq hn (lv_sub hl [1, 0] rfl) h
theorem w_x_Law_law_J3 {r : Int32 × HS} {st : HS} {l0 : Nat} {w0 : Nat} {n0 s0 : Nat} {H : Heap} {locs : List Loc} {ce sl : Nat} {ls : Array Slot} (X : jx p s m args meth c b_x_Law_law 4 (some .boolean) "NoteSheetLaw") (hK : 603 ≤ K) (hq : hC G A s st H locs) (hn : hN ce sl n0 s0 st) (hl : lv_has ls 4 [(0, .ref l0)]) (h : x_Law_law_J3 st l0 w0 = some r) : W p l e (rmL K (hNx r.2 - n0) (hNs r.2 - s0)) s m args below meth c H locs ce sl (MQ below (hQc G A (some (.int r.1)) r.2) args s (hNx r.2 - n0) (hNs r.2 - s0) A) (F0 m 3 ls [.ref w0]) := by
  obtain ⟨hx, hb, hr, hml, hown, hts, hlocks⟩ := id X
  have hmr : hle st r.2 := n_x_Law_law_J3 h
  unfold x_Law_law_J3 at h
  refine lv_dup hx hb d_x_Law_law_3 rfl ?_
  refine lv_aload_n hx hb d_x_Law_law_4 rfl (lv_at hl 0 rfl) ?_
  refine lv_iconst (v := 0) hx hb d_x_Law_law_5 (by decide) ?_
  replace h := obi h; obtain ⟨x1, ex1, h⟩ := h
  refine hcallS (st' := st) (n := 2) X hq hle.rf (c_x_Law_cell l 0 (Nat.le_refl _) G A ex1) q_664 q_665 q_0 q_666 ok_x_Law_cell rfl (lvl (by omega) (by decide)) hl.1 rfl (Nat.le_of_ble_eq_true rfl) d_x_Law_law_6 (hn.fit hmr) (fun H locs hq => ?_)
  replace h := obi h; obtain ⟨st2, est2, h⟩ := h
  have hn2 := hn.call (n_x_NS_init est2)
  have hmr := n_x_Law_law_J12 h
  refine hcallI (n := 1) X hq (n_x_NS_init est2) (c_x_NS_init l 3 (Nat.le_refl _) G A est2) q_22 q_23 q_1 q_24 ok_x_NS_init rfl rfl (lvl (by omega) (by decide)) hl.1 rfl (Nat.le_of_ble_eq_true rfl) d_x_Law_law_9 (hn2.fit hmr) (fun H locs hq => ?_)
  have hn := hn2
  exact w_x_Law_law_J12 X hK hq hn (lv_sub hl [0] rfl) h
end
theorem b_law (l : Launch) (K : Nat) (hK : 603 ≤ K) (G : HG) (A : Nat → Prop) {st : HS} {a0 : Nat} {r : Int32 × HS} (h : x_Law_law st a0 = some r) {p : Program} {e : Env} {s : State} {m : MethodId} {below : List Frame} {meth : Method} {c : Code} {ls : Array Slot} (X : jx p s m ([.ref a0] : List Value).toArray meth c code 4 (some .boolean) "NoteSheetLaw") (hq : hC G A s st s.heap []) (hl : lv_has ls 4 [(0, .ref a0)]) : W p l e (rmL K (hNx r.2 - hNx st) (hNs r.2 - hNs st)) s m ([.ref a0] : List Value).toArray below meth c s.heap [] 0 0 (MQ below (hQc G A (some (.int r.1)) r.2) ([.ref a0] : List Value).toArray s (hNx r.2 - hNx st) (hNs r.2 - hNs st) A) (F0 m 0 ls []) := by
  have hl : lv_has ls 4 [(0, .ref a0)] := hl
  generalize ([.ref a0] : List Value).toArray = args at X ⊢
  obtain ⟨hx, hb, hr, hml, hown, hts, hlocks⟩ := id X
  generalize hHH : s.heap = H at hq ⊢
  generalize ([] : List Loc) = locs at hq ⊢
  clear hHH
  have hmr : hle st r.2 := n_x_Law_law h
  have hn : hN 0 0 (hNx st) (hNs st) st := ⟨Nat.zero_add _, Nat.zero_add _⟩
  unfold x_Law_law at h
  replace h := obi h; obtain ⟨ad1, ead1, h⟩ := h
  replace h := obi h; obtain ⟨st2, est2, h⟩ := h
  have hn2 := hn.new est2
  have hmr := n_x_Law_law_J3 h
  refine h_new X hq 0 rfl est2 q_20 q_21 q_1 (hn2.fit hmr) d_x_Law_law_0 (fun H hq => ?_)
  have hn := hn2
  refine lv_nma (Option.some.inj ead1) ?_
  exact w_x_Law_law_J3 X hK hq hn (lv_sub hl [0] rfl) h
